/-! HashMap: chains, split in two when the table grows -/
def Seg (nx : Nat → Option Nat) : List Nat → Prop
  | [] => True
  | [_] => True
  | k :: k' :: r => nx k = some k' ∧ Seg nx (k' :: r)
theorem Path.congr {nx nx' : Nat → Option Nat} : ∀ {l : List Nat} {h : Option Nat}, (∀ z ∈ l, nx' z = nx z) → Path nx h l → Path nx' h l
  | [], _, _, hp => hp
  | k :: r, _, he, hp => ⟨hp.1, by
    rw [he k List.mem_cons_self]
    exact Path.congr (fun z hz => he z (List.mem_cons_of_mem _ hz)) hp.2⟩
theorem Seg.congr {nx nx' : Nat → Option Nat} : ∀ {l : List Nat}, (∀ z ∈ l, nx' z = nx z) → Seg nx l → Seg nx' l
  | [], _, _ => trivial
  | [_], _, _ => trivial
  | k :: k' :: r, he, hp => ⟨by rw [he k List.mem_cons_self]; exact hp.1, Seg.congr (fun z hz => he z (List.mem_cons_of_mem _ hz)) hp.2⟩
theorem Seg.snoc {nx nx' : Nat → Option Nat} {t e : Nat} (ht : nx' t = some e) : ∀ {L : List Nat}, (∀ z ∈ L, nx' z = nx z) → Seg nx (L ++ [t]) → Seg nx' (L ++ [t] ++ [e])
  | [], _, _ => ⟨ht, trivial⟩
  | [a], he, hp => ⟨by rw [he a List.mem_cons_self]; exact hp.1, ht, trivial⟩
  | a :: b :: r, he, hp => ⟨by rw [he a List.mem_cons_self]; exact hp.1, Seg.snoc ht (fun z hz => he z (List.mem_cons_of_mem _ hz)) hp.2⟩
theorem Seg.path {nx nx' : Nat → Option Nat} {t : Nat} (ht : nx' t = none) : ∀ {L : List Nat}, (∀ z ∈ L, nx' z = nx z) → Seg nx (L ++ [t]) → Path nx' (L ++ [t]).head? (L ++ [t])
  | [], _, _ => ⟨rfl, ht⟩
  | [a], he, hp => ⟨rfl, by rw [he a List.mem_cons_self, hp.1]; exact ⟨rfl, ht⟩⟩
  | a :: b :: r, he, hp => ⟨rfl, by
    rw [he a List.mem_cons_self, hp.1]
    exact Seg.path ht (fun z hz => he z (List.mem_cons_of_mem _ hz)) hp.2⟩
theorem snoc_of {l : List Nat} {t : Nat} (h : l.getLast? = some t) : ∃ L, l = L ++ [t] := by
  exact List.getLast?_eq_some_iff.mp h
theorem head_snoc {l : List Nat} {e x : Nat} (h : l.getLast? = some x) : (l ++ [e]).head? = l.head? := by
  cases l with
  | nil => cases h
  | cons a r => rfl
theorem last_snoc {l : List Nat} {e : Nat} : (l ++ [e]).getLast? = some e := by simp
theorem last_none {l : List Nat} (h : l.getLast? = none) : l = [] := List.getLast?_eq_none_iff.mp h
/-- the nodes stand, with these next ones -/
def Nds (c : Nat) (S : HS) (nx : Nat → Option Nat) (μ : Mem) : Prop := ∀ k, S.P k = true → μ (S.nd k) = some (.inr (12, [.int (hsh k), .ref (S.sp k), .ref (S.vl k), va_rf ((nx k).map S.nd)]), c) ∧ μ (S.sp k) = some (.inr (6, [.int (nI k)]), 1)
theorem Nds.put {c t : Nat} {S : HS} {nx : Nat → Option Nat} {r : Option Nat} {μ μ' : Mem} (hP : ∀ k, S.P k = true → k < 32) (h : Nds c S nx μ) (ht : S.P t = true) (pp : Put (S.nd t) (.inr (12, [.int (hsh t), .ref (S.sp t), .ref (S.vl t), va_rf ((nx t).map S.nd)]), c) (.inr (12, [.int (hsh t), .ref (S.sp t), .ref (S.vl t), va_rf (r.map S.nd)]), c) μ μ') : Nds c S (va_up nx t r) μ' := fun k hk => by
  refine ⟨?_, pp.oth (h k hk).2 (fun z => by cases z)⟩
  by_cases e : k = t
  · subst e
    rw [va_up_self]
    exact pp.2.1
  · rw [va_up_ne _ _ e]
    refine pp.oth (h k hk).1 (fun z => e ?_)
    injection z with z1 z2
    injection z1 with z3
    injection z3 with z4 z5
    injection z5 with z6 z7
    injection z6 with z8
    exact hsh_inj (hP k hk) (hP t ht) z8
theorem Nds.mono {c : Nat} {S : HS} {nx : Nat → Option Nat} {μ μ' : Mem} (h : Nds c S nx μ) (hm : ∀ q x t, μ q = some (.inr x, t) → μ' q = some (.inr x, t)) : Nds c S nx μ' := fun k hk => ⟨hm _ _ _ (h k hk).1, hm _ _ _ (h k hk).2⟩
theorem bk_splits : ∀ e : Fin 6, 1 ≤ e.val → ∀ k : Fin 32, (hsh k.val &&& nI (2 ^ e.val) = 0 → bk k.val (2 * 2 ^ e.val) = bk k.val (2 ^ e.val)) ∧ (¬ hsh k.val &&& nI (2 ^ e.val) = 0 → bk k.val (2 * 2 ^ e.val) = bk k.val (2 ^ e.val) + 2 ^ e.val) := by decide +kernel
def isLo (S : HS) (k : Nat) : Bool := decide (hsh k &&& nI S.cap = 0)
theorem HPs.cap5 {S : HS} (h : HPs S) (hc : S.cap < 64) : ∃ e, 1 ≤ e ∧ e ≤ 5 ∧ S.cap = 2 ^ e := by
  obtain ⟨⟨e, h1, h2, h3⟩, -⟩ := h
  refine ⟨e, h1, ?_, h3⟩
  by_cases z : e = 6
  · subst z
    rw [h3] at hc
    exact absurd hc (by decide)
  · omega
theorem bk_lo {S : HS} (h : HPs S) (hc : S.cap < 64) {k : Nat} (hk : k < 32) (hl : isLo S k = true) : bk k (2 * S.cap) = bk k S.cap := by
  obtain ⟨e, h1, h2, h3⟩ := h.cap5 hc
  unfold isLo at hl
  rw [h3] at hl ⊢
  exact (bk_splits ⟨e, by omega⟩ h1 ⟨k, hk⟩).1 (of_decide_eq_true hl)
theorem bk_hi {S : HS} (h : HPs S) (hc : S.cap < 64) {k : Nat} (hk : k < 32) (hl : isLo S k = false) : bk k (2 * S.cap) = bk k S.cap + S.cap := by
  obtain ⟨e, h1, h2, h3⟩ := h.cap5 hc
  unfold isLo at hl
  rw [h3] at hl ⊢
  exact (bk_splits ⟨e, by omega⟩ h1 ⟨k, hk⟩).2 (of_decide_eq_false hl)
/-- the buckets of the grown table -/
def spB (S : HS) (i : Nat) : List Nat := if i < S.cap then (S.B i).filter (isLo S) else (S.B (i - S.cap)).filter (fun k => !isLo S k)
def spS (S : HS) (q : Nat) (hd nx : Nat → Option Nat) : HS := (2 * S.cap, q, hd, nx, S.nd, S.sp, S.vl, S.P, spB S)
theorem spS_ok {S : HS} {q : Nat} {hd nx : Nat → Option Nat} (h : HPs S) (hc : S.cap < 64) (hp : ∀ i, i < 2 * S.cap → Path nx (hd i) (spB S i)) : HPs (spS S q hd nx) := by
  refine ⟨?_, h.2.1, fun i hi => ⟨hp i hi, ?_, fun k => ?_⟩⟩
  · obtain ⟨e, h1, h2, h3⟩ := h.cap5 hc
    exact ⟨e + 1, by omega, by omega, by show 2 * S.cap = _; rw [h3, Nat.pow_succ, Nat.mul_comm]⟩
  · show (spB S i).Nodup
    unfold spB
    have hi : i < 2 * S.cap := hi
    split
    · next c => exact (h.2.2 i c).2.1.filter _
    · next c => exact (h.2.2 (i - S.cap) (by omega)).2.1.filter _
  · show k ∈ spB S i ↔ (S.P k = true ∧ bk k (2 * S.cap) = i)
    have hi : i < 2 * S.cap := hi
    unfold spB
    split
    · next c =>
      rw [List.mem_filter, (h.2.2 i c).2.2 k]
      constructor
      · rintro ⟨⟨h1, h2⟩, h3⟩
        exact ⟨h1, by rw [bk_lo h hc (h.2.1 k h1) h3]; exact h2⟩
      · rintro ⟨h1, h2⟩
        cases hl : isLo S k with
        | true => rw [bk_lo h hc (h.2.1 k h1) hl] at h2; exact ⟨⟨h1, h2⟩, rfl⟩
        | false => rw [bk_hi h hc (h.2.1 k h1) hl] at h2; omega
    · next c =>
      rw [List.mem_filter, (h.2.2 (i - S.cap) (by omega)).2.2 k]
      constructor
      · rintro ⟨⟨h1, h2⟩, h3⟩
        have h3 : isLo S k = false := by simpa using h3
        exact ⟨h1, by rw [bk_hi h hc (h.2.1 k h1) h3]; omega⟩
      · rintro ⟨h1, h2⟩
        have hlt := bk_lt h k
        cases hl : isLo S k with
        | true => rw [bk_lo h hc (h.2.1 k h1) hl] at h2; omega
        | false => rw [bk_hi h hc (h.2.1 k h1) hl] at h2; exact ⟨⟨h1, by omega⟩, rfl⟩

theorem thr_f {S : HS} (h : HPs S) (hc : S.cap < 64) : vf_n32 (FP.fmul (FP.i2f (nI (2 * S.cap))) LF) ∧ FP.f2i (FP.fmul (FP.i2f (nI (2 * S.cap))) LF) = nI (thrOf (2 * S.cap)) ∧ Op.cmpValue (FP.fcmp (FP.fmul (FP.i2f (nI (2 * S.cap))) LF) 1317011456) .g = -1 := by
  obtain ⟨e, h1, h2, h3⟩ := h.cap5 hc
  rw [h3, show 2 * 2 ^ e = 2 ^ (e + 1) by rw [Nat.pow_succ, Nat.mul_comm]]
  exact thr_fs ⟨e + 1, by omega⟩ (by show 1 ≤ e + 1; omega)
theorem thr_ds : ∀ e : Fin 6, 4 ≤ e.val → nI (thrOf (2 ^ e.val)) <<< ((1 : Int32) &&& 31) = nI (thrOf (2 * 2 ^ e.val)) := by decide +kernel
theorem thr_d {S : HS} (h : HPs S) (hc : S.cap < 64) (h16 : 16 ≤ S.cap) : nI (thrOf S.cap) <<< ((1 : Int32) &&& 31) = nI (thrOf (2 * S.cap)) := by
  obtain ⟨e, h1, h2, h3⟩ := h.cap5 hc
  rw [h3] at h16 ⊢
  refine thr_ds ⟨e, by omega⟩ ?_
  show 4 ≤ e
  by_cases z : 4 ≤ e
  · exact z
  · have : ∀ e : Fin 4, ¬ 16 ≤ 2 ^ e.val := by decide
    exact absurd h16 (this ⟨e, by omega⟩)
theorem bk_and2 {S : HS} (h : HPs S) (hc : S.cap < 64) {k : Nat} (hk : k < 32) : nI (2 * S.cap - 1) &&& hsh k = nI (bk k (2 * S.cap)) := by
  obtain ⟨e, h1, h2, h3⟩ := h.cap5 hc
  rw [h3, show 2 * 2 ^ e = 2 ^ (e + 1) by rw [Nat.pow_succ, Nat.mul_comm]]
  exact bk_ands ⟨e + 1, by omega⟩ (by show 1 ≤ e + 1; omega) ⟨k, hk⟩
theorem and_comm32 {x y z : Int32} (h : y &&& x = z) : x &&& y = z := by rw [Int32.and_comm]; exact h
/-- a table's places -/
theorem up_map {hd : Nat → Option Nat} {nd : Nat → Nat} {g : Nat → Option Nat} {N j k : Nat} (hg : ∀ i, i < N → g i = (hd i).map nd) : ∀ i, i < N → va_up g j (some (nd k)) i = (va_up hd j (some k) i).map nd := fun i hi => by
  by_cases e : i = j
  · subst e
    rw [va_up_self, va_up_self]; rfl
  · rw [va_up_ne _ _ e, va_up_ne _ _ e]
    exact hg i hi
/-- what of the old table's first j places has come to the new one; the rest -/
def Dn (S : HS) (j : Nat) (hd nx : Nat → Option Nat) : Prop := (∀ i, i < j → Path nx (hd i) (spB S i) ∧ Path nx (hd (i + S.cap)) (spB S (i + S.cap))) ∧ ∀ i, j ≤ i → i < S.cap → Path nx (S.hd i) (S.B i) ∧ hd i = none ∧ hd (i + S.cap) = none
theorem spB_lo {S : HS} {j : Nat} (h : j < S.cap) : spB S j = (S.B j).filter (isLo S) := if_pos h
theorem spB_hi {S : HS} {j : Nat} : spB S (j + S.cap) = (S.B j).filter (fun k => !isLo S k) := by
  unfold spB
  rw [if_neg (by omega), Nat.add_sub_cancel]
theorem Dn.none {S : HS} {j : Nat} {hd nx : Nat → Option Nat} (h : Dn S j hd nx) (hj : j < S.cap) (hh : S.hd j = none) : Dn S (j + 1) hd nx := by
  obtain ⟨h1, h2⟩ := h
  obtain ⟨p1, p2, p3⟩ := h2 j (Nat.le_refl _) hj
  rw [hh] at p1
  refine ⟨fun i hi => ?_, fun i h3 h4 => h2 i (by omega) h4⟩
  by_cases e : i = j
  · subst e
    rw [spB_lo hj, spB_hi, p1.nil, p2, p3]
    exact ⟨rfl, rfl⟩
  · exact h1 i (by omega)
/-- a bucket has come: its two halves -/
theorem Dn.step {S : HS} {j : Nat} {hd nx hd' nx' : Nat → Option Nat} (hP : HPs S) (h : Dn S j hd nx) (hj : j < S.cap) (hnx : ∀ z, z ∉ S.B j → nx' z = nx z) (hhd : ∀ i, i ≠ j → i ≠ j + S.cap → hd' i = hd i) (p1 : Path nx' (hd' j) (spB S j)) (p2 : Path nx' (hd' (j + S.cap)) (spB S (j + S.cap))) : Dn S (j + 1) hd' nx' := by
  obtain ⟨h1, h2⟩ := h
  have hB : ∀ i, i < S.cap → i ≠ j → ∀ z ∈ S.B i, z ∉ S.B j := fun i hi hne z hz hz2 => hne ((((hP.2.2 i hi).2.2 z).mp hz).2.symm.trans (((hP.2.2 j hj).2.2 z).mp hz2).2)
  refine ⟨fun i hi => ?_, fun i h3 h4 => ?_⟩
  · by_cases e : i = j
    · subst e
      exact ⟨p1, p2⟩
    · obtain ⟨q1, q2⟩ := h1 i (by omega)
      rw [hhd i e (by omega), hhd (i + S.cap) (by omega) (by omega)]
      refine ⟨q1.congr (fun z hz => hnx z ?_), q2.congr (fun z hz => hnx z ?_)⟩
      · rw [spB_lo (by omega)] at hz
        exact hB i (by omega) e z (List.mem_filter.mp hz).1
      · rw [spB_hi] at hz
        exact hB i (by omega) e z (List.mem_filter.mp hz).1
  · obtain ⟨q1, q2, q3⟩ := h2 i (by omega) h4
    rw [hhd i (by omega) (by omega), hhd (i + S.cap) (by omega) (by omega)]
    exact ⟨q1.congr (fun z hz => hnx z (hB i h4 (by omega) z hz)), q2, q3⟩
theorem Dn.one {S : HS} {j k : Nat} {hd nx : Nat → Option Nat} (hP : HPs S) (hc : S.cap < 64) (h : Dn S j hd nx) (hj : j < S.cap) (hB : S.B j = [k]) (hn : nx k = Option.none) : Dn S (j + 1) (va_up hd (bk k (2 * S.cap)) (some k)) nx ∧ bk k (2 * S.cap) < 2 * S.cap := by
  obtain ⟨hPk, hbk⟩ := ((hP.2.2 j hj).2.2 k).mp (by rw [hB]; exact List.mem_cons_self)
  have hk := hP.2.1 k hPk
  obtain ⟨-, p2, p3⟩ := h.2 j (Nat.le_refl _) hj
  cases hl : isLo S k with
  | true =>
    have e := bk_lo hP hc hk hl
    rw [hbk] at e
    rw [e]
    refine ⟨h.step hP hj (fun _ _ => rfl) (fun i h1 h2 => va_up_ne _ _ h1) ?_ ?_, by omega⟩
    · rw [spB_lo hj, hB, List.filter_cons_of_pos hl, va_up_self]
      exact ⟨rfl, hn⟩
    · rw [spB_hi, hB, List.filter_cons_of_neg (by simp [hl]), va_up_ne _ _ (by omega), p3]
      exact rfl
  | false =>
    have e := bk_hi hP hc hk hl
    rw [hbk] at e
    rw [e]
    refine ⟨h.step hP hj (fun _ _ => rfl) (fun i h1 h2 => va_up_ne _ _ h2) ?_ ?_, by omega⟩
    · rw [spB_lo hj, hB, List.filter_cons_of_neg (by simp [hl]), va_up_ne _ _ (by omega), p2]
      exact rfl
    · rw [spB_hi, hB, List.filter_cons_of_pos (by simp [hl]), va_up_self]
      exact ⟨rfl, hn⟩
