/-! HashMap: a key comes in, or gets another value (pure, and what the memory holds) -/
set_option maxRecDepth 100000
theorem Path.next {nx : Nat → Option Nat} {k k' : Nat} : ∀ {l : List Nat} {h : Option Nat}, Path nx h l → k ∈ l → nx k = some k' → k' ∈ l
  | [], _, _, hk, _ => by cases hk
  | a :: r, _, hp, hk, hn => by
    rcases List.mem_cons.mp hk with e | hk
    · subst e
      have h2 := hp.2
      rw [hn] at h2
      obtain ⟨r', e, -⟩ := h2.cons
      rw [e]
      exact List.mem_cons_of_mem _ List.mem_cons_self
    · exact List.mem_cons_of_mem _ (Path.next hp.2 hk hn)
theorem HPs.hdP {S : HS} (h : HPs S) {j k : Nat} (hj : j < S.cap) (hh : S.hd j = some k) : S.P k = true := by
  have hp := (h.2.2 j hj).1
  rw [hh] at hp
  obtain ⟨r, e, -⟩ := hp.cons
  exact (((h.2.2 j hj).2.2 k).mp (by rw [e]; exact List.mem_cons_self)).1
theorem HPs.nxP {S : HS} (h : HPs S) {k k' : Nat} (hk : S.P k = true) (hn : S.nx k = some k') : S.P k' = true := by
  have hb := bk_lt h k
  have hm := h.in.mpr hk
  exact (((h.2.2 _ hb).2.2 k').mp ((h.2.2 _ hb).1.next hm hn)).1
/-- a node more, in no chain yet -/
def addN (S : HS) (κ q s v : Nat) : HS := (S.cap, S.tb, S.hd, va_up S.nx κ none, va_up S.nd κ q, va_up S.sp κ s, va_up S.vl κ v, va_up S.P κ true, S.B)
theorem HN.add {Γ : Gm} {c κ q s v : Nat} {S : HS} {μ μ' : Mem} (hP : HPs S) (hN : HN Γ c S μ) (hκ : S.P κ = false) (hs : μ s = some (.inr (6, [.int (nI κ)]), 1)) (pp : New q (.inr (12, [.int (hsh κ), .ref s, .ref v, .null]), c) μ μ') : HN Γ c (addN S κ q s v) μ' := by
  obtain ⟨⟨f, h1, h2⟩, h3⟩ := hN
  have hne : ∀ k, S.P k = true → k ≠ κ := fun k hk e => by rw [e, hκ] at hk; cases hk
  refine ⟨⟨f, pp.oth h1, fun j hj => ?_⟩, fun k hk => ?_⟩
  · rw [h2 j hj]
    show (S.hd j).map S.nd = (S.hd j).map (va_up S.nd κ q)
    cases hh : S.hd j with
    | none => rfl
    | some k =>
      show some _ = some _
      rw [va_up_ne _ _ (hne k (hP.hdP hj hh))]
  · by_cases e : k = κ
    · subst e
      refine ⟨?_, ?_⟩
      · show μ' (va_up S.nd k q k) = some (.inr (12, [.int (hsh k), .ref (va_up S.sp k s k), .ref (va_up S.vl k v k), va_rf ((va_up S.nx k none k).map _)]), c)
        rw [va_up_self, va_up_self, va_up_self, va_up_self]
        exact pp.2.1
      · show μ' (va_up S.sp k s k) = _
        rw [va_up_self]
        exact pp.oth hs
    · have hk' : S.P k = true := by
        have : va_up S.P κ true k = true := hk
        rwa [va_up_ne _ _ e] at this
      obtain ⟨g1, g2⟩ := h3 k hk'
      refine ⟨?_, ?_⟩
      · show μ' (va_up S.nd κ q k) = some (.inr (12, [.int (hsh k), .ref (va_up S.sp κ s k), .ref (va_up S.vl κ v k), va_rf ((va_up S.nx κ none k).map (va_up S.nd κ q))]), c)
        rw [va_up_ne _ _ e, va_up_ne _ _ e, va_up_ne _ _ e, va_up_ne _ _ e, pp.oth g1]
        unfold nodeC
        cases hn : S.nx k with
        | none => rfl
        | some k2 =>
          rw [show Option.map (va_up S.nd κ q) (some k2) = Option.map S.nd (some k2) from congrArg some (va_up_ne _ _ (hne k2 (hP.nxP hk' hn)))]
      · show μ' (va_up S.sp κ s k) = _
        rw [va_up_ne _ _ e]
        exact pp.oth g2
/-- the new node is its bucket's first -/
def hsE (S : HS) (κ : Nat) : HS := (S.cap, S.tb, va_up S.hd (bk κ S.cap) (some κ), S.nx, S.nd, S.sp, S.vl, S.P, va_up S.B (bk κ S.cap) [κ])
theorem HN.insE {Γ : Gm} {c κ : Nat} {S : HS} {μ μ' : Mem} {f : Nat → Option Nat} (h1 : μ S.tb = some (.inl (Γ.2.1 6, S.cap, .inr (.inr (.inr (.inr f)))), c)) (h2 : ∀ j, j < S.cap → f j = (S.hd j).map S.nd) (h3 : ∀ k, S.P k = true → μ (S.nd k) = some (nodeC S c k (va_rf ((S.nx k).map S.nd))) ∧ μ (S.sp k) = some (.inr (6, [.int (nI k)]), 1)) (pp : Put S.tb (.inl (Γ.2.1 6, S.cap, .inr (.inr (.inr (.inr f)))), c) (.inl (Γ.2.1 6, S.cap, .inr (.inr (.inr (.inr (va_up f (bk κ S.cap) (some (S.nd κ))))))), c) μ μ') : HN Γ c (hsE S κ) μ' :=
  ⟨⟨_, pp.2.1, up_map h2⟩, fun k hk => ⟨pp.oth (h3 k hk).1 (fun z => by cases z), pp.oth (h3 k hk).2 (fun z => by cases z)⟩⟩
theorem insE_ok {S : HS} {κ q s v : Nat} (h : HPs S) (hκ : κ < 32) (hP : S.P κ = false) (hh : S.hd (bk κ S.cap) = none) : HPs (hsE (addN S κ q s v) κ) := by
  have hne : ∀ k, S.P k = true → k ≠ κ := fun k hk e => by rw [e, hP] at hk; cases hk
  refine ⟨h.1, fun k hk => ?_, fun j hj => ?_⟩
  · by_cases e : k = κ
    · rw [e]; exact hκ
    · have : va_up S.P κ true k = true := hk
      rw [va_up_ne _ _ e] at this
      exact h.2.1 k this
  · have hj : j < S.cap := hj
    show Path (va_up S.nx κ none) (va_up S.hd (bk κ S.cap) (some κ) j) (va_up S.B (bk κ S.cap) [κ] j) ∧ (va_up S.B (bk κ S.cap) [κ] j).Nodup ∧ ∀ k, k ∈ va_up S.B (bk κ S.cap) [κ] j ↔ (va_up S.P κ true k = true ∧ bk k S.cap = j)
    obtain ⟨p1, p2, p3⟩ := h.2.2 j hj
    by_cases e : j = bk κ S.cap
    · rw [e, va_up_self, va_up_self]
      rw [e, hh] at p1
      refine ⟨⟨rfl, by rw [va_up_self]; exact rfl⟩, List.nodup_cons.mpr ⟨List.not_mem_nil, List.nodup_nil⟩, fun k => ?_⟩
      constructor
      · intro hk
        rcases List.mem_cons.mp hk with z | z
        · rw [z, va_up_self]; exact ⟨rfl, rfl⟩
        · cases z
      · rintro ⟨g1, g2⟩
        by_cases z : k = κ
        · rw [z]; exact List.mem_cons_self
        · rw [va_up_ne _ _ z] at g1
          have := (p3 k).mpr ⟨g1, by rw [g2, e]⟩
          rw [e, p1.nil] at this
          cases this
    · rw [va_up_ne _ _ e, va_up_ne _ _ e]
      refine ⟨p1.congr (fun z hz => va_up_ne _ _ (hne z ((p3 z).mp hz).1)), p2, fun k => ?_⟩
      by_cases z : k = κ
      · subst z
        rw [va_up_self]
        constructor
        · intro hk; exact ⟨rfl, ((p3 k).mp hk).2⟩
        · rintro ⟨-, g⟩; exact absurd g.symm e
      · rw [va_up_ne _ _ z]
        exact p3 k
/-- the new node is behind its bucket's last, t -/
def hsA (S : HS) (κ t : Nat) : HS := (S.cap, S.tb, S.hd, va_up S.nx t (some κ), S.nd, S.sp, S.vl, S.P, va_up S.B (bk κ S.cap) (S.B (bk κ S.cap) ++ [κ]))
theorem Path.snoc {nx : Nat → Option Nat} {κ t : Nat} : ∀ {L : List Nat} {h : Option Nat}, Path nx h (L ++ [t]) → t ∉ L → κ ∉ L ++ [t] → nx κ = none → Path (va_up nx t (some κ)) h (L ++ [t] ++ [κ])
  | [], h, hp, _, hk, hn => ⟨hp.1, by
    rw [va_up_self]
    exact ⟨rfl, by rw [va_up_ne _ _ (fun e => hk (by rw [e]; simp))]; exact hn⟩⟩
  | a :: r, h, hp, ht, hk, hn => ⟨hp.1, by
    rw [va_up_ne _ _ (fun e => ht (by rw [e]; exact List.mem_cons_self))]
    exact Path.snoc hp.2 (fun z => ht (List.mem_cons_of_mem _ z)) (fun z => hk (List.mem_cons_of_mem _ z)) hn⟩
theorem insA_ok {S : HS} {κ q s v t : Nat} {L : List Nat} (h : HPs S) (hκ : κ < 32) (hP : S.P κ = false) (hB : S.B (bk κ S.cap) = L ++ [t]) : HPs (hsA (addN S κ q s v) κ t) := by
  have hne : ∀ k, S.P k = true → k ≠ κ := fun k hk e => by rw [e, hP] at hk; cases hk
  refine ⟨h.1, fun k hk => ?_, fun j hj => ?_⟩
  · by_cases e : k = κ
    · rw [e]; exact hκ
    · have : va_up S.P κ true k = true := hk
      rw [va_up_ne _ _ e] at this
      exact h.2.1 k this
  · have hj : j < S.cap := hj
    show Path (va_up (va_up S.nx κ none) t (some κ)) (S.hd j) (va_up S.B (bk κ S.cap) (S.B (bk κ S.cap) ++ [κ]) j) ∧ (va_up S.B (bk κ S.cap) (S.B (bk κ S.cap) ++ [κ]) j).Nodup ∧ ∀ k, k ∈ va_up S.B (bk κ S.cap) (S.B (bk κ S.cap) ++ [κ]) j ↔ (va_up S.P κ true k = true ∧ bk k S.cap = j)
    obtain ⟨p1, p2, p3⟩ := h.2.2 j hj
    by_cases e : j = bk κ S.cap
    · subst e
      rw [va_up_self]
      have hmem : κ ∉ S.B (bk κ S.cap) := fun z => hne κ ((p3 κ).mp z).1 rfl
      refine ⟨?_, ?_, fun k => ?_⟩
      · rw [hB] at p1 p2 hmem ⊢
        have htL : t ∉ L := fun z => (List.nodup_append.mp p2).2.2 t z t List.mem_cons_self rfl
        exact Path.snoc (p1.congr (fun z hz => va_up_ne _ _ (fun e => hmem (by rw [← e]; exact hz)))) htL hmem (va_up_self _ _ _)
      · refine List.nodup_append.mpr ⟨p2, List.nodup_cons.mpr ⟨List.not_mem_nil, List.nodup_nil⟩, fun a ha b hb e => ?_⟩
        rcases List.mem_cons.mp hb with z | z
        · have e2 := e.trans z
          subst e2
          exact hmem ha
        · cases z
      · rw [List.mem_append]
        by_cases z : k = κ
        · rw [z, va_up_self]
          exact ⟨fun _ => ⟨rfl, rfl⟩, fun _ => Or.inr List.mem_cons_self⟩
        · rw [va_up_ne _ _ z, ← p3 k]
          exact ⟨fun hk => hk.resolve_right (fun y => by rcases List.mem_cons.mp y with y | y; exact z y; cases y), Or.inl⟩
    · rw [va_up_ne _ _ e]
      refine ⟨p1.congr (fun z hz => ?_), p2, fun k => ?_⟩
      · have hz2 := ((p3 z).mp hz)
        rw [va_up_ne _ _ (fun y => ?_), va_up_ne _ _ (hne z hz2.1)]
        have : t ∈ S.B (bk κ S.cap) := by rw [hB]; simp
        have := ((h.2.2 _ (bk_lt h κ)).2.2 t).mp this
        rw [← y, hz2.2] at this
        exact e this.2
      · by_cases z : k = κ
        · subst z
          rw [va_up_self]
          constructor
          · intro hk; exact ⟨rfl, ((p3 k).mp hk).2⟩
          · rintro ⟨-, g⟩; exact absurd g.symm e
        · rw [va_up_ne _ _ z]
          exact p3 k
/-- another value -/
def hsV (S : HS) (κ v : Nat) : HS := (S.cap, S.tb, S.hd, S.nx, S.nd, S.sp, va_up S.vl κ v, S.P, S.B)
theorem node_ne {S S' : HS} {c k j : Nat} {x y : Value} (hk : k < 32) (hj : j < 32) (h : k ≠ j) : nodeC S c k x ≠ nodeC S' c j y := fun z => by
  unfold nodeC at z
  injection z with z1 z2
  injection z1 with z3
  injection z3 with z4 z5
  injection z5 with z6 z7
  injection z6 with z8
  exact h (hsh_inj hk hj z8)
theorem HN.setV {Γ : Gm} {c κ v : Nat} {S : HS} {μ μ' : Mem} (hP : HPs S) (hN : HN Γ c S μ) (hκ : S.P κ = true) (pp : Put (S.nd κ) (nodeC S c κ (va_rf ((S.nx κ).map S.nd))) (.inr (12, [.int (hsh κ), .ref (S.sp κ), .ref v, va_rf ((S.nx κ).map S.nd)]), c) μ μ') : HN Γ c (hsV S κ v) μ' := by
  obtain ⟨⟨f, h1, h2⟩, h3⟩ := hN
  refine ⟨⟨f, pp.oth h1 (fun z => by cases z), h2⟩, fun k hk => ⟨?_, pp.oth (h3 k hk).2 (fun z => by cases z)⟩⟩
  show μ' (S.nd k) = some (.inr (12, [.int (hsh k), .ref (S.sp k), .ref (va_up S.vl κ v k), va_rf ((S.nx k).map S.nd)]), c)
  by_cases e : k = κ
  · subst e
    rw [va_up_self]
    exact pp.2.1
  · rw [va_up_ne _ _ e]
    exact pp.oth (h3 k hk).1 (node_ne (hP.2.1 k hk) (hP.2.1 κ hκ) e)
theorem HN.insA {Γ : Gm} {c κ t : Nat} {S : HS} {μ μ' : Mem} (h32 : ∀ k, S.P k = true → k < 32) (hN : HN Γ c S μ) (ht : S.P t = true) (pp : Put (S.nd t) (nodeC S c t (va_rf ((S.nx t).map S.nd))) (.inr (12, [.int (hsh t), .ref (S.sp t), .ref (S.vl t), .ref (S.nd κ)]), c) μ μ') : HN Γ c (hsA S κ t) μ' := by
  obtain ⟨⟨f, h1, h2⟩, h3⟩ := hN
  refine ⟨⟨f, pp.oth h1 (fun z => by cases z), h2⟩, fun k hk => ⟨?_, pp.oth (h3 k hk).2 (fun z => by cases z)⟩⟩
  show μ' (S.nd k) = some (.inr (12, [.int (hsh k), .ref (S.sp k), .ref (S.vl k), va_rf ((va_up S.nx t (some κ) k).map S.nd)]), c)
  by_cases e : k = t
  · subst e
    rw [va_up_self]
    exact pp.2.1
  · rw [va_up_ne _ _ e]
    exact pp.oth (h3 k hk).1 (node_ne (h32 k hk) (h32 t ht) e)
/-! how long a chain can be -/
theorem len_sub : ∀ {l L : List Nat}, l.Nodup → (∀ z ∈ l, z ∈ L) → l.length ≤ L.length
  | [], _, _, _ => Nat.zero_le _
  | a :: r, L, hn, hs => by
    have h1 := List.nodup_cons.mp hn
    have ha := hs a List.mem_cons_self
    have ih := len_sub (L := L.erase a) h1.2 (fun z hz => by
      refine (List.mem_erase_of_ne (fun e => h1.1 (by rw [← e]; exact hz))).mpr (hs z (List.mem_cons_of_mem _ hz)))
    rw [List.length_erase_of_mem ha] at ih
    have := List.length_pos_of_mem ha
    simp only [List.length_cons]
    omega
theorem len_cnt {p : Nat → Bool} : ∀ (n : Nat) {l : List Nat}, l.Nodup → (∀ z ∈ l, z < n ∧ p z = true) → l.length ≤ cntP p n
  | 0, l, _, h => by
    cases l with
    | nil => exact Nat.zero_le _
    | cons a r => exact absurd (h a List.mem_cons_self).1 (Nat.not_lt_zero _)
  | n + 1, l, hn, h => by
    rw [cntP_s]
    by_cases c : n ∈ l
    · rw [if_pos (h n c).2]
      have ih := len_cnt n (l := l.erase n) (hn.erase n) (fun z hz => by
        have hz2 := List.mem_of_mem_erase hz
        have hne : z ≠ n := fun e => by rw [e] at hz; exact (List.Nodup.not_mem_erase hn) hz
        exact ⟨by have := (h z hz2).1; omega, (h z hz2).2⟩)
      rw [List.length_erase_of_mem c] at ih
      omega
    · have ih := len_cnt n hn (fun z hz => ⟨by have h1 := (h z hz).1; have h2 : z ≠ n := (fun e => c (by rw [← e]; exact hz)); omega, (h z hz).2⟩)
      split <;> omega
theorem bk_few : ∀ e : Fin 7, 3 ≤ e.val → ∀ b : Fin 64, ((List.range 32).filter (fun k => bk k (2 ^ e.val) == b.val)).length ≤ 4 := by decide +kernel
theorem chain_le {S : HS} (h : HPs S) (hs : cntP S.P 32 ≤ thrOf S.cap) {b : Nat} (hb : b < S.cap) : (S.B b).length ≤ 6 := by
  obtain ⟨p1, p2, p3⟩ := h.2.2 b hb
  obtain ⟨⟨e, h1, h2, h3⟩, h4, -⟩ := h
  have hc := len_cnt 32 p2 (fun z hz => ⟨h4 z ((p3 z).mp hz).1, ((p3 z).mp hz).1⟩)
  by_cases c : 3 ≤ e
  · have hcap : S.cap ≤ 64 := by
      rw [h3]
      have : ∀ e : Fin 7, 2 ^ e.val ≤ 64 := by decide
      exact this ⟨e, by omega⟩
    have h6 := bk_few ⟨e, by omega⟩ c ⟨b, by omega⟩
    have h7 := len_sub p2 (L := (List.range 32).filter (fun k => bk k (2 ^ e) == b)) (fun z hz => by
      have hz2 := (p3 z).mp hz
      rw [List.mem_filter]
      exact ⟨List.mem_range.mpr (h4 z hz2.1), by rw [← h3]; exact beq_iff_eq.mpr hz2.2⟩)
    exact Nat.le_trans h7 (Nat.le_trans h6 (by omega))
  · have h5 : S.cap ≤ 4 := by
      rw [h3]
      have : ∀ e : Fin 3, 2 ^ e.val ≤ 4 := by decide
      exact this ⟨e, by omega⟩
    unfold thrOf at hs
    omega
theorem HN.insE' {Γ : Gm} {c κ q : Nat} {S : HS} {μ μ' : Mem} {f : Nat → Option Nat} (hq : S.nd κ = q) (h1 : μ S.tb = some (.inl (Γ.2.1 6, S.cap, .inr (.inr (.inr (.inr f)))), c)) (h2 : ∀ j, j < S.cap → f j = (S.hd j).map S.nd) (h3 : ∀ k, S.P k = true → μ (S.nd k) = some (nodeC S c k (va_rf ((S.nx k).map S.nd))) ∧ μ (S.sp k) = some (.inr (6, [.int (nI k)]), 1)) (pp : Put S.tb (.inl (Γ.2.1 6, S.cap, .inr (.inr (.inr (.inr f)))), c) (.inl (Γ.2.1 6, S.cap, .inr (.inr (.inr (.inr (va_up f (bk κ S.cap) (some q)))))), c) μ μ') : HN Γ c (hsE S κ) μ' := by
  subst hq
  exact HN.insE h1 h2 h3 pp
theorem HN.insA' {Γ : Gm} {c κ t q : Nat} {S : HS} {μ μ' : Mem} {x : Nat} {y : Nat} (hq : S.nd κ = q) (hx : S.sp t = x) (hy : S.vl t = y) {a : Nat} (ha : S.nd t = a) (h32 : ∀ k, S.P k = true → k < 32) (hN : HN Γ c S μ) (ht : S.P t = true) {e : va_E × Nat} (pp : Put a e (.inr (12, [.int (hsh t), .ref x, .ref y, .ref q]), c) μ μ') : HN Γ c (hsA S κ t) μ' := by
  subst hq; subst hx; subst hy; subst ha
  have h1 := (hN.2 t ht).1
  rw [pp.1] at h1
  have e1 := Option.some.inj h1
  subst e1
  exact HN.insA h32 hN ht pp
theorem HN.putO {Γ : Gm} {c a ci t : Nat} {S : HS} {fs : List Value} {e' : va_E × Nat} {μ μ' : Mem} (h : HN Γ c S μ) (pp : Put a (.inr (ci, fs), t) e' μ μ') (h1 : 12 ≠ ci) (h2 : 6 ≠ ci) : HN Γ c S μ' := by
  obtain ⟨⟨f, g1, g2⟩, g3⟩ := h
  exact ⟨⟨f, pp.oth g1 (fun z => by cases z), g2⟩, fun k hk => ⟨pp.oth (g3 k hk).1 (fun z => by unfold nodeC at z; cases z; exact h1 rfl), pp.oth (g3 k hk).2 (fun z => by cases z; exact h2 rfl)⟩⟩
/-- what put leaves, by key -/
def PutP (S S' : HS) (κ v : Nat) : Prop := (∀ k, S'.P k = (S.P k || decide (k = κ))) ∧ S'.vl κ = v ∧ ∀ k, S.P k = true → k ≠ κ → S'.vl k = S.vl k
noncomputable def cntK (S : HS) : Nat := cntP S.P 32
theorem cntK_32 (S : HS) : cntK S ≤ 32 := cntP_n 32
theorem PutP.cnt {S S' : HS} {κ v : Nat} (h : PutP S S' κ v) (hκ : κ < 32) (hn : S.P κ = false) : cntK S' = cntK S + 1 := by
  have key : ∀ n, cntP S'.P n = cntP S.P n + (if κ < n then 1 else 0) := by
    intro n
    induction n with
    | zero => rw [cntP_0, cntP_0, if_neg (Nat.not_lt_zero _)]
    | succ n ih =>
      rw [cntP_s, cntP_s, ih, h.1 n]
      by_cases e : n = κ
      · subst e
        rw [hn, if_neg (Nat.lt_irrefl _)]
        simp
      · have : decide (n = κ) = false := decide_eq_false e
        rw [this, Bool.or_false]
        by_cases c : κ < n
        · have x1 : (if κ < n then 1 else 0) = 1 := if_pos c
          have x2 : (if κ < n + 1 then 1 else 0) = 1 := if_pos (by omega)
          rw [x1, x2]
          by_cases hp : S.P n = true
          · rw [if_pos hp, if_pos hp]
          · rw [if_neg hp, if_neg hp]
        · have x1 : (if κ < n then 1 else 0) = 0 := if_neg c
          have x2 : (if κ < n + 1 then 1 else 0) = 0 := if_neg (by omega)
          rw [x1, x2]
          by_cases hp : S.P n = true
          · rw [if_pos hp, if_pos hp]
          · rw [if_neg hp, if_neg hp]
  unfold cntK
  rw [key 32, if_pos hκ]
theorem PutP.addE {S : HS} {κ q s v : Nat} : PutP S (hsE (addN S κ q s v) κ) κ v := ⟨fun k => by
  show va_up S.P κ true k = _
  by_cases e : k = κ
  · subst e; rw [va_up_self]; simp
  · rw [va_up_ne _ _ e]; simp [e], va_up_self _ _ _, fun k _ hk => va_up_ne _ _ hk⟩
theorem PutP.addA {S : HS} {κ q s v t : Nat} : PutP S (hsA (addN S κ q s v) κ t) κ v := ⟨fun k => by
  show va_up S.P κ true k = _
  by_cases e : k = κ
  · subst e; rw [va_up_self]; simp
  · rw [va_up_ne _ _ e]; simp [e], va_up_self _ _ _, fun k _ hk => va_up_ne _ _ hk⟩
theorem PutP.set {S : HS} {κ v : Nat} (h : S.P κ = true) : PutP S (hsV S κ v) κ v := ⟨fun k => by
  show S.P k = _
  by_cases e : k = κ
  · subst e; rw [h]; rfl
  · simp [e], va_up_self _ _ _, fun k _ hk => va_up_ne _ _ hk⟩
theorem PutP.sp {S S' : HS} {κ v q : Nat} {hd nx : Nat → Option Nat} (h : PutP S S' κ v) : PutP S (spS S' q hd nx) κ v := h
