/-! WHAT THE REFERENCE'S ARRAYS NEED: indices in range. WfM B σ: nodes and homes below 4, ranges 1 to 32, transactions at most 40, owners and waits from -1 below 40, versions and standing intents together at most B -/
def ownStep (σ : St) (k : Nat) (n : Nat) : Nat := if σ 7 (nI k) = -1 then n else n + 1
noncomputable def cntOwn (σ : St) : Nat := iter (ownStep σ) 32 0
def WfM (B : Nat) (σ : St) : Prop :=
  (∀ i, ir (σ 6 i) 4) ∧ (∀ i, ir (σ 17 i) 4) ∧ (1 ≤ σ 4 0 ∧ σ 4 0 ≤ 32) ∧ (0 ≤ σ 16 0 ∧ σ 16 0 ≤ 40) ∧ (∀ i, -1 ≤ σ 7 i ∧ σ 7 i < 40) ∧ (∀ i, -1 ≤ σ 24 i ∧ σ 24 i < 40) ∧ 0 ≤ σ 12 0 ∧ nat (σ 12 0) + cntOwn σ ≤ B
theorem iter_inv {α : Type} {P : α → Prop} {f : Nat → α → α} (hs : ∀ k a, P a → P (f k a)) {a : α} (h : P a) : ∀ n, P (iter f n a)
  | 0 => by rw [iter_0]; exact h
  | n + 1 => by rw [iter_s]; exact hs n _ (iter_inv hs h n)
theorem iter_invB {α : Type} {P : α → Prop} {f : Nat → α → α} {N : Nat} (hs : ∀ k a, k < N → P a → P (f k a)) {a : α} (h : P a) : ∀ n, n ≤ N → P (iter f n a)
  | 0, _ => by rw [iter_0]; exact h
  | n + 1, hn => by rw [iter_s]; exact hs n _ (by omega) (iter_invB hs h n (by omega))
theorem iter_congr {α : Type} {f g : Nat → α → α} {a : α} : ∀ n, (∀ k b, k < n → f k b = g k b) → iter f n a = iter g n a
  | 0, _ => by rw [iter_0, iter_0]
  | n + 1, h => by
    rw [iter_s, iter_s]
    rw [iter_congr n (fun k b hk => h k b (by omega)), h n _ (by omega)]
theorem cntOwn_congr {σ σ' : St} (h : ∀ k, k < 32 → σ' 7 (nI k) = σ 7 (nI k)) : cntOwn σ' = cntOwn σ :=
  iter_congr 32 (fun k b hk => by unfold ownStep; rw [h k hk])
theorem iter_cnt {p q : Nat → Bool} {j : Nat} (hq : q j = true) (hp : p j = false) {N : Nat} (h : ∀ k, k < N → k ≠ j → p k = q k) : ∀ n, n ≤ N → iter (fun k m => if p k = true then m + 1 else m) n 0 + (if j < n then 1 else 0) = iter (fun k m => if q k = true then m + 1 else m) n 0
  | 0, _ => by simp [iter_0]
  | n + 1, hn => by
    have ih := iter_cnt hq hp h n (by omega)
    rw [iter_s, iter_s]
    by_cases e : n = j
    · subst e
      rw [if_neg (by rw [hp]; exact fun z => by cases z), if_pos (by omega), if_pos hq]
      rw [if_neg (by omega)] at ih
      omega
    · rw [h n (by omega) e]
      have : (if j < n + 1 then 1 else 0) = (if j < n then 1 else 0) := by
        by_cases l : j < n
        · rw [if_pos l, if_pos (by omega)]
        · rw [if_neg l, if_neg (by omega)]
      rw [this]
      by_cases c : q n = true
      · rw [if_pos c, if_pos c]; omega
      · rw [if_neg c, if_neg c]; omega
theorem cntOwn_eq (σ : St) : cntOwn σ = iter (fun k m => if (!decide (σ 7 (nI k) = -1)) = true then m + 1 else m) 32 0 :=
  iter_congr 32 (fun k b _ => by
    unfold ownStep
    by_cases c : σ 7 (nI k) = -1 <;> simp [c])
theorem cntOwn_off {σ : St} {j : Nat} (hj : j < 32) (h : ¬ σ 7 (nI j) = -1) : cntOwn (sset σ 7 (nI j) (-1)) + 1 = cntOwn σ := by
  rw [cntOwn_eq, cntOwn_eq]
  have := iter_cnt (p := fun k => !decide (sset σ 7 (nI j) (-1) 7 (nI k) = -1)) (q := fun k => !decide (σ 7 (nI k) = -1)) (j := j) (N := 32) (by simp [h]) (by simp [sset_eq]) (fun k hk hkj => by
    rw [sset_i (fun e => hkj ((nI_eq (by omega) (by omega)).mp e))]) 32 (Nat.le_refl _)
  rw [if_pos hj] at this
  exact this
theorem ownS (σ : St) (k n : Nat) : ownStep σ k n = if σ 7 (nI k) = -1 then n else n + 1 := rfl
theorem cntOwn_set {σ : St} {i v : Int32} : cntOwn (sset σ 7 i v) ≤ cntOwn σ + 1 := by
  by_cases hv : v = -1 ∨ ¬ ∃ j : Nat, j < 32 ∧ i = nI j
  · -- no place gains
    have h : ∀ n, n ≤ 32 → iter (ownStep (sset σ 7 i v)) n 0 ≤ iter (ownStep σ) n 0 := by
      intro n
      induction n with
      | zero => exact fun _ => by rw [iter_0, iter_0]; exact Nat.le_refl _
      | succ n ih =>
        intro hn
        have ih := ih (by omega)
        rw [iter_s, iter_s]
        rw [ownS, ownS]
        by_cases e : nI n = i
        · rcases hv with hv | hv
          · subst e; rw [sset_eq, if_pos hv]
            split <;> omega
          · exact absurd ⟨n, by omega, e.symm⟩ hv
        · rw [sset_i e]
          split <;> omega
    have := h 32 (Nat.le_refl _)
    unfold cntOwn
    omega
  · have hv1 : ¬ v = -1 := fun z => hv (Or.inl z)
    obtain ⟨j, hj, rfl⟩ : ∃ j : Nat, j < 32 ∧ i = nI j := Classical.byContradiction fun z => hv (Or.inr z)
    have h : ∀ n, n ≤ 32 → iter (ownStep (sset σ 7 (nI j) v)) n 0 ≤ iter (ownStep σ) n 0 + (if j < n then 1 else 0) := by
      intro n
      induction n with
      | zero => exact fun _ => by simp [iter_0]
      | succ n ih =>
        intro hn
        have ih := ih (by omega)
        rw [iter_s, iter_s]
        rw [ownS, ownS]
        by_cases e : n = j
        · subst e
          rw [if_neg (Nat.lt_irrefl _)] at ih
          rw [sset_eq, if_neg hv1, if_pos (Nat.lt_succ_self _)]
          split <;> omega
        · rw [sset_i (fun z => e ((nI_eq (by omega) (by omega)).mp z))]
          by_cases l : j < n
          · rw [if_pos l] at ih
            rw [if_pos (show j < n + 1 by omega)]
            split <;> omega
          · rw [if_neg l] at ih
            rw [if_neg (show ¬ j < n + 1 by omega)]
            split <;> omega
    have := h 32 (Nat.le_refl _)
    rw [if_pos hj] at this
    exact this
theorem cntOwn_clr {σ : St} {i : Int32} : cntOwn (sset σ 7 i (-1)) ≤ cntOwn σ := by
  have h : ∀ n, n ≤ 32 → iter (ownStep (sset σ 7 i (-1))) n 0 ≤ iter (ownStep σ) n 0 := by
    intro n
    induction n with
    | zero => exact fun _ => by rw [iter_0, iter_0]; exact Nat.le_refl _
    | succ n ih =>
      intro hn
      have ih := ih (by omega)
      rw [iter_s, iter_s]
      rw [ownS, ownS]
      by_cases e : nI n = i
      · subst e; rw [sset_eq, if_pos rfl]
        split <;> omega
      · rw [sset_i e]
        split <;> omega
  exact h 32 (Nat.le_refl _)
theorem WfM.mono {B B' : Nat} {σ : St} (h : WfM B σ) (hb : B ≤ B') : WfM B' σ := ⟨h.1, h.2.1, h.2.2.1, h.2.2.2.1, h.2.2.2.2.1, h.2.2.2.2.2.1, h.2.2.2.2.2.2.1, Nat.le_trans h.2.2.2.2.2.2.2 hb⟩
/-- a write to a field that isn't one of these -/
theorem WfM.oth {B : Nat} {σ : St} {f : Nat} {i v : Int32} (h : WfM B σ) (hf : f ∉ [4, 6, 7, 12, 16, 17, 24]) : WfM B (sset σ f i v) := by
  have n : ∀ g, g ∈ [4, 6, 7, 12, 16, 17, 24] → ∀ j, sset σ f i v g j = σ g j := fun g hg j => sset_f (fun e => hf (by rw [← e]; exact hg))
  obtain ⟨h1, h2, h3, h4, h5, h6, h7, h8⟩ := h
  refine ⟨fun i => ?_, fun i => ?_, ?_, ?_, fun i => ?_, fun i => ?_, ?_, ?_⟩
  · rw [n 6 (by simp)]; exact h1 i
  · rw [n 17 (by simp)]; exact h2 i
  · rw [n 4 (by simp)]; exact h3
  · rw [n 16 (by simp)]; exact h4
  · rw [n 7 (by simp)]; exact h5 i
  · rw [n 24 (by simp)]; exact h6 i
  · rw [n 12 (by simp)]; exact h7
  · rw [n 12 (by simp), cntOwn_congr (fun k _ => n 7 (by simp) (nI k))]; exact h8
theorem WfM.s6 {B : Nat} {σ : St} {i v : Int32} (h : WfM B σ) (hv : ir v 4) : WfM B (sset σ 6 i v) := by
  obtain ⟨h1, h2, h3, h4, h5, h6, h7, h8⟩ := h
  refine ⟨fun j => ?_, fun j => ?_, h3, h4, fun j => ?_, fun j => ?_, h7, h8⟩
  · by_cases e : j = i
    · subst e; rw [sset_eq]; exact hv
    · rw [sset_i e]; exact h1 j
  · exact h2 j
  · exact h5 j
  · exact h6 j
theorem WfM.s17 {B : Nat} {σ : St} {i v : Int32} (h : WfM B σ) (hv : ir v 4) : WfM B (sset σ 17 i v) := by
  obtain ⟨h1, h2, h3, h4, h5, h6, h7, h8⟩ := h
  refine ⟨fun j => h1 j, fun j => ?_, h3, h4, fun j => h5 j, fun j => h6 j, h7, h8⟩
  by_cases e : j = i
  · subst e; rw [sset_eq]; exact hv
  · rw [sset_i e]; exact h2 j
theorem WfM.s24 {B : Nat} {σ : St} {i v : Int32} (h : WfM B σ) (hv : -1 ≤ v ∧ v < 40) : WfM B (sset σ 24 i v) := by
  obtain ⟨h1, h2, h3, h4, h5, h6, h7, h8⟩ := h
  refine ⟨fun j => h1 j, fun j => h2 j, h3, h4, fun j => h5 j, fun j => ?_, h7, h8⟩
  by_cases e : j = i
  · subst e; rw [sset_eq]; exact hv
  · rw [sset_i e]; exact h6 j
theorem WfM.s4 {B : Nat} {σ : St} {v : Int32} (h : WfM B σ) (hv : 1 ≤ v ∧ v ≤ 32) : WfM B (sset σ 4 0 v) := by
  obtain ⟨h1, h2, h3, h4, h5, h6, h7, h8⟩ := h
  exact ⟨fun j => h1 j, fun j => h2 j, by rw [sset_eq]; exact hv, h4, fun j => h5 j, fun j => h6 j, h7, h8⟩
theorem WfM.s16 {B : Nat} {σ : St} {v : Int32} (h : WfM B σ) (hv : 0 ≤ v ∧ v ≤ 40) : WfM B (sset σ 16 0 v) := by
  obtain ⟨h1, h2, h3, h4, h5, h6, h7, h8⟩ := h
  exact ⟨fun j => h1 j, fun j => h2 j, h3, by rw [sset_eq]; exact hv, fun j => h5 j, fun j => h6 j, h7, h8⟩
/-- an intent set: one more -/
theorem WfM.s7 {B : Nat} {σ : St} {i v : Int32} (h : WfM B σ) (hv : -1 ≤ v ∧ v < 40) : WfM (B + 1) (sset σ 7 i v) := by
  obtain ⟨h1, h2, h3, h4, h5, h6, h7, h8⟩ := h
  refine ⟨fun j => h1 j, fun j => h2 j, h3, h4, fun j => ?_, fun j => h6 j, h7, ?_⟩
  · by_cases e : j = i
    · subst e; rw [sset_eq]; exact hv
    · rw [sset_i e]; exact h5 j
  · have := cntOwn_set (σ := σ) (i := i) (v := v)
    show nat (σ 12 0) + _ ≤ _
    omega
/-- an intent gone -/
theorem WfM.c7 {B : Nat} {σ : St} {i : Int32} (h : WfM B σ) : WfM B (sset σ 7 i (-1)) := by
  obtain ⟨h1, h2, h3, h4, h5, h6, h7, h8⟩ := h
  refine ⟨fun j => h1 j, fun j => h2 j, h3, h4, fun j => ?_, fun j => h6 j, h7, ?_⟩
  · by_cases e : j = i
    · subst e; rw [sset_eq]; exact ⟨by decide, by decide⟩
    · rw [sset_i e]; exact h5 j
  · have := cntOwn_clr (σ := σ) (i := i)
    show nat (σ 12 0) + _ ≤ _
    omega
/-- an intent becomes a version -/
theorem WfM.ver {B : Nat} {σ : St} {j : Nat} (hj : j < 32) (hB : B ≤ 1000) (h : WfM B σ) (ho : ¬ σ 7 (nI j) = -1) : nat (σ 12 0) < B ∧ WfM B (sset (sset σ 12 0 (σ 12 0 + 1)) 7 (nI j) (-1)) := by
  obtain ⟨h1, h2, h3, h4, h5, h6, h7, h8⟩ := h
  have hc := cntOwn_off hj ho
  have h7' : 0 ≤ (σ 12 0).toInt := by rw [i_le] at h7; simpa using h7
  obtain ⟨e1, e2⟩ := i_nat h7'
  have e3 : σ 12 0 + 1 = nI (nat (σ 12 0) + 1) := by rw [← nI_1]; congr 1
  refine ⟨by omega, fun j => h1 j, fun j => h2 j, h3, h4, fun i => ?_, fun j => h6 j, ?_, ?_⟩
  · by_cases e : i = nI j
    · subst e; rw [sset_eq]; exact ⟨by decide, by decide⟩
    · rw [sset_i e]; exact h5 i
  · rw [sset_f (by decide), sset_eq, e3]
    exact nI_pos' (by omega)
  · rw [sset_f (by decide), sset_eq, e3]
    have : nat (nI (nat (σ 12 0) + 1)) = nat (σ 12 0) + 1 := nI_clamp (by omega)
    rw [this]
    have e4 : cntOwn (sset (sset σ 12 0 (nI (nat (σ 12 0) + 1))) 7 (nI j) (-1)) = cntOwn (sset σ 7 (nI j) (-1)) := cntOwn_congr (fun k _ => by
      by_cases e : nI k = nI j
      · rw [e, sset_eq, sset_eq]
      · rw [sset_i e, sset_i e, sset_f (by decide)])
    rw [e4]
    omega
theorem WfM.asks {B : Nat} {σ : St} {x : Int32} (h : WfM B σ) : WfM B (asksS σ x) := h.oth (by decide)
theorem WfM.node {B : Nat} {σ : St} (h : WfM B σ) (key : Int32) : ir (nodeOfF σ key) 4 := h.1 _
theorem WfM.covers {B : Nat} {σ : St} {key st : Int32} (h : WfM B σ) : WfM B (coversS σ key st) := by
  unfold coversS
  split
  · exact h
  · exact (h.oth (by decide)).oth (by decide)
theorem WfM.marks {B : Nat} {σ : St} {t key st : Int32} (h : WfM B σ) : WfM B (marksS σ t key st) := by
  unfold marksS
  split
  · split
    · exact h.oth (by decide)
    · exact h
  · exact (h.oth (by decide)).oth (by decide)
theorem WfM.com1 {B : Nat} (hB : B ≤ 1000) {t : Int32} (ht : ¬ t = -1) {k : Nat} (hk : k < 32) {σ : St} (h : WfM B σ) : WfM B (comStep t k σ) := by
  unfold comStep
  split
  · next c =>
    have h1 : WfM B (sset (sset (sset σ 13 (σ 12 0) (nI k)) 14 (σ 12 0) (σ 20 t)) 15 (σ 12 0) (σ 9 (nI k))) := ((h.oth (by decide)).oth (by decide)).oth (by decide)
    exact (h1.ver hk hB (by rw [sset_f (by decide), sset_f (by decide), sset_f (by decide), c]; exact ht)).2
  · exact h
theorem WfM.commits {B : Nat} (hB : B ≤ 1000) {t : Int32} (ht : ¬ t = -1) {σ : St} (h : WfM B σ) : WfM B (commitsS σ t) :=
  iter_invB (N := 32) (fun k a hk ha => ha.com1 hB ht hk) (((h.oth (by decide)).oth (by decide)).oth (by decide)) 32 (Nat.le_refl _)
theorem WfM.recovers {B : Nat} (hB : B ≤ 1000) {t : Int32} (ht : ¬ t = -1) {σ : St} (h : WfM B σ) : WfM B (recoversS σ t) := by
  unfold recoversS
  split
  · exact h.commits hB ht
  · exact h.oth (by decide)
theorem WfM.m1 {B : Nat} (hB : B ≤ 1000) {t : Int32} (ht : ¬ t = -1) {σ : St} (h : WfM B σ) : WfM B (meetsS1 σ t) := by
  unfold meetsS1
  split
  · exact h.recovers hB ht
  · exact h
theorem WfM.m2 {B : Nat} {t : Int32} {σ : St} (h : WfM B σ) : WfM B (meetsS2 σ t) := by
  unfold meetsS2
  split
  · exact h.oth (by decide)
  · exact h
theorem WfM.m3 {B : Nat} {t key : Int32} {σ : St} (h : WfM B σ) : WfM B (meetsS3 σ t key) := by
  unfold meetsS3
  split
  · exact h.c7
  · exact h
theorem WfM.meets {B : Nat} (hB : B ≤ 1000) {t key : Int32} {σ : St} (h : WfM B σ) : WfM B (meetsS σ t key) := by
  unfold meetsS
  split
  · exact h
  · next c => exact ((h.m1 hB (fun z => c (Or.inl z))).m2).m3
theorem WfM.own {B : Nat} {σ : St} (h : WfM B σ) {key : Int32} (ho : ¬ σ 7 key = -1) : ir (σ 7 key) 40 := by
  obtain ⟨h1, h2⟩ := h.2.2.2.2.1 key
  refine ⟨?_, h2⟩
  rw [i_le] at h1 ⊢
  rw [i_eq] at ho
  have e1 : (-1 : Int32).toInt = -1 := by decide
  have e0 : (0 : Int32).toInt = 0 := by decide
  rw [e1] at h1 ho
  rw [e0]
  omega
theorem WfM.wai {B : Nat} {σ : St} (h : WfM B σ) {t : Int32} (ho : ¬ σ 24 t = -1) : ir (σ 24 t) 40 := by
  obtain ⟨h1, h2⟩ := h.2.2.2.2.2.1 t
  refine ⟨?_, h2⟩
  rw [i_le] at h1 ⊢
  rw [i_eq] at ho
  have e1 : (-1 : Int32).toInt = -1 := by decide
  have e0 : (0 : Int32).toInt = 0 := by decide
  rw [e1] at h1 ho
  rw [e0]
  omega
theorem meetsF_own (σ : St) (t key : Int32) : meetsF σ t key = -1 ∨ (meetsF σ t key = σ 7 key ∧ ¬ σ 7 key = -1) := by
  unfold meetsF
  split
  · exact Or.inl rfl
  · next c =>
    split
    · exact Or.inr ⟨rfl, fun z => c (Or.inl z)⟩
    · exact Or.inl rfl
theorem WfM.mF {B : Nat} {t key : Int32} {σ : St} (h : WfM B σ) (hm : ¬ meetsF σ t key = -1) : ir (meetsF σ t key) 40 := by
  rcases meetsF_own σ t key with e | ⟨e, e2⟩
  · exact absurd e hm
  · rw [e]; exact h.own e2
theorem WfM.forgets {B : Nat} {σ : St} {t : Int32} (h : WfM B σ) : WfM B (forgetsS σ t) := iter_inv (fun k a ha => (ha.oth (by decide)).oth (by decide)) h 32
theorem WfM.restarts {B : Nat} {σ : St} {t st : Int32} (h : WfM B σ) : WfM B (restartsS σ t st) := by
  have h1 : WfM B (iter (resStep t) 32 σ) := iter_inv (fun k a ha => by
    unfold resStep
    split
    · exact ha.c7
    · exact ha) h 32
  exact ((h1.forgets).oth (by decide)).oth (by decide)
theorem WfM.ref1 {B : Nat} (hB : B ≤ 1000) {t to : Int32} {k : Nat} {p : St × Bool} (h : WfM B p.1) : WfM B (refStep t to k p).1 := by
  unfold refStep
  split
  · split
    · exact h
    · split
      · exact h.meets hB
      · exact h
  · exact h
theorem WfM.refn {B : Nat} (hB : B ≤ 1000) {t to : Int32} {p : St × Bool} (h : WfM B p.1) : ∀ n, WfM B (iter (refStep t to) n p).1
  | 0 => by rw [iter_0]; exact h
  | n + 1 => by rw [iter_s]; exact WfM.ref1 hB (WfM.refn hB h n)
theorem WfM.refs {B : Nat} (hB : B ≤ 1000) {σ : St} {t to : Int32} (h : WfM B σ) : WfM B (refS σ t to) := by
  have h1 : WfM B (iter (refStep t to) 32 (σ, true)).1 := WfM.refn hB (p := (σ, true)) h 32
  unfold refS
  split
  · exact iter_inv (fun k a ha => by
      unfold refMark
      split
      · exact ha
      · exact ha.marks) h1 32
  · exact h1
theorem WfM.opens {B : Nat} {σ : St} {t key : Int32} (h : WfM B σ) : WfM B (opensS σ t key) := by
  have h1 : WfM B (opensS1 σ t key) := (h.s24 ⟨by decide, by decide⟩).oth (by decide)
  unfold opensS
  split
  · split
    · exact (h1.asks).oth (by decide)
    · exact h1
  · exact h
theorem WfM.anew {B : Nat} {σ : St} {t o : Int32} (ho : ir o 40) (h : WfM B σ) : WfM B (anewS σ t o) := by
  have h1 : WfM B (sset σ 24 t o) := h.s24 ⟨by
    have := ho.1
    rw [i_le] at this ⊢
    exact Int.le_trans (by decide) this, ho.2⟩
  unfold anewS
  split
  · exact (h1.oth (by decide)).s24 ⟨by decide, by decide⟩
  · exact h1
theorem rng_ge {σ : St} {key : Int32} : ∀ (n : Nat) (j : Nat), j ≤ 31 → σ 4 0 ≤ 32 → ∃ i : Nat, i ≤ 31 ∧ rngGo σ key n (nI j) = nI i
  | 0, j, h, _ => ⟨j, h, rngGo_0⟩
  | n + 1, j, h, h4 => by
    rw [rngGo_s]
    split
    · next c =>
      rw [nI_1] at c ⊢
      have h1 := c.1
      rw [i_lt, nI_toInt (by omega)] at h1
      rw [i_le] at h4
      have e : (32 : Int32).toInt = 32 := by decide
      exact rng_ge n (j + 1) (by omega) (by rw [i_le]; exact h4)
    · exact ⟨j, h, rfl⟩
theorem rng_ir {B : Nat} {σ : St} {key : Int32} (h : WfM B σ) : ir (rangeOfF σ key) (nI 32) := by
  obtain ⟨i, h1, h2⟩ := rng_ge (σ := σ) (key := key) 32 0 (by decide) h.2.2.1.2
  have : rangeOfF σ key = nI i := h2
  rw [this]
  exact ir_nI (by omega) (by decide)
theorem asks_oth {σ : St} {f : Nat} {i v x : Int32} (h0 : 0 ≠ f) (h1 : 1 ≠ f) (h2 : 2 ≠ f) : asksF (sset σ f i v) x = asksF σ x := by
  unfold asksF
  rw [sset_f h0, sset_f h1, sset_f h2]
theorem asksS_f {σ : St} {x j : Int32} {g : Nat} (h : g ≠ 2) : asksS σ x g j = σ g j := by
  unfold asksS
  rw [sset_f h]
theorem WfM.v13 {B : Nat} {σ : St} (h : WfM B σ) (hB : B ≤ 1000) : nat (σ 12 0) ≤ 1300 := by
  have := h.2.2.2.2.2.2.2
  omega
theorem WfM.vix {B : Nat} {σ : St} {j : Nat} (h : WfM B σ) (hB : B ≤ 1000) (hj : j < 32) (ho : ¬ σ 7 (nI j) = -1) : ir (σ 12 0) (nI 1300) := by
  have h1 := (h.ver hj hB ho).1
  have e := nat_eq h.2.2.2.2.2.2.1
  rw [e]
  exact ir_nI (by omega) (by decide)
theorem WfM.many {B : Nat} {σ : St} (h : WfM B σ) (c : ¬ σ 16 0 = 40) : ir (σ 16 0) (nI 40) := by
  obtain ⟨h1, h2⟩ := h.2.2.2.1
  rw [ir_int (by decide)]
  rw [i_le] at h1 h2
  rw [i_eq] at c
  have e0 : (0 : Int32).toInt = 0 := by decide
  have e1 : (40 : Int32).toInt = 40 := by decide
  omega
theorem WfM.rix {B : Nat} {σ : St} {r : Int32} (h : WfM B σ) {d : Int32} (hd : d = 1 ∨ d = 2) (c : inB r 0 (σ 4 0 - d) = true) : ir r (nI 32) ∧ r.toInt + d.toInt ≤ (σ 4 0).toInt := by
  obtain ⟨h1, h2⟩ := h.2.2.1
  unfold inB at c
  simp only [Bool.and_eq_true, Bool.not_eq_true', decide_eq_false_iff_not] at c
  rw [ir_int (by decide)]
  rw [i_le] at h1 h2
  have e0 : (0 : Int32).toInt = 0 := by decide
  have e1 : (1 : Int32).toInt = 1 := by decide
  have e2 : (2 : Int32).toInt = 2 := by decide
  have e3 : (32 : Int32).toInt = 32 := by decide
  rw [i_lt, i_lt] at c
  rcases hd with rfl | rfl
  · rw [i_sub (by omega) (by omega)] at c
    omega
  · rw [i_sub (by omega) (by omega)] at c
    omega
/-- a key's range is one of them -/
theorem rng_in {σ : St} {key : Int32} : ∀ (n : Nat) (r : Int32), 0 ≤ r.toInt → r.toInt < (σ 4 0).toInt → 0 ≤ (rngGo σ key n r).toInt ∧ (rngGo σ key n r).toInt < (σ 4 0).toInt
  | 0, r, h1, h2 => by rw [rngGo_0]; exact ⟨h1, h2⟩
  | n + 1, r, h1, h2 => by
    rw [rngGo_s]
    have hb := i_bd (σ 4 0)
    have e1 : (1 : Int32).toInt = 1 := by decide
    split
    · next c =>
      have c1 := c.1
      have e := i_add (a := r) (b := 1) (by omega) (by omega)
      rw [i_lt] at c1
      exact rng_in n (r + 1) (by omega) c1
    · exact ⟨h1, h2⟩
theorem rangeOf_in {σ : St} {key : Int32} (h : 1 ≤ σ 4 0) : 0 ≤ (rangeOfF σ key).toInt ∧ (rangeOfF σ key).toInt < (σ 4 0).toInt := by
  rw [i_le] at h
  have e0 : (0 : Int32).toInt = 0 := by decide
  have e1 : (1 : Int32).toInt = 1 := by decide
  exact rng_in 32 0 (by omega) (by omega)
theorem rng_oth {σ : St} {f : Nat} {i v key : Int32} (h4 : 4 ≠ f) (h5 : 5 ≠ f) : rangeOfF (sset σ f i v) key = rangeOfF σ key := by
  have h : ∀ n r, rngGo (sset σ f i v) key n r = rngGo σ key n r := by
    intro n
    induction n with
    | zero => intro r; rw [rngGo_0, rngGo_0]
    | succ n ih => intro r; rw [rngGo_s, rngGo_s, sset_f h4, sset_f h5, ih]
  exact h 32 0
theorem node_oth {σ : St} {f : Nat} {i v key : Int32} (h4 : 4 ≠ f) (h5 : 5 ≠ f) (h6 : 6 ≠ f) : nodeOfF (sset σ f i v) key = nodeOfF σ key := by
  unfold nodeOfF
  rw [rng_oth h4 h5, sset_f h6]
/-! what each leaves alone -/
theorem sset_g {σ : St} {f g : Nat} {i v : Int32} (h : g ≠ f) : sset σ f i v g = σ g := by funext j; exact sset_f h
theorem fr_ne {g f : Nat} {l : List Nat} (h : g ∉ l) (hf : f ∈ l) : g ≠ f := fun e => h (e ▸ hf)
theorem coversS_g {σ : St} {key st : Int32} {g : Nat} (h : g ∉ [10, 11]) : coversS σ key st g = σ g := by
  unfold coversS
  split
  · rfl
  · rw [sset_g (fr_ne h (by decide)), sset_g (fr_ne h (by decide))]
theorem marksS_g {σ : St} {t key st : Int32} {g : Nat} (h : g ∉ [10, 11]) : marksS σ t key st g = σ g := by
  unfold marksS
  split
  · split
    · rw [sset_g (fr_ne h (by decide))]
    · rfl
  · rw [sset_g (fr_ne h (by decide)), sset_g (fr_ne h (by decide))]
theorem forgetsS_g {σ : St} {t : Int32} {g : Nat} (h : g ∉ [28, 29]) : forgetsS σ t g = σ g :=
  iter_inv (P := fun (a : St) => a g = σ g) (fun k a ha => by unfold forgStep; rw [sset_g (fr_ne h (by decide)), sset_g (fr_ne h (by decide))]; exact ha) rfl 32
theorem comStep_g {σ : St} {t : Int32} {k g : Nat} (h : g ∉ [7, 12, 13, 14, 15]) : comStep t k σ g = σ g := by
  unfold comStep
  split
  · rw [sset_g (fr_ne h (by decide)), sset_g (fr_ne h (by decide)), sset_g (fr_ne h (by decide)), sset_g (fr_ne h (by decide)), sset_g (fr_ne h (by decide))]
  · rfl
theorem commitsS_g {σ : St} {t : Int32} {g : Nat} (h : g ∉ [7, 12, 13, 14, 15, 23, 25, 26]) : commitsS σ t g = σ g :=
  iter_inv (P := fun (a : St) => a g = σ g) (fun k a ha => (comStep_g (fun z => h (by simp only [List.mem_cons, List.not_mem_nil, or_false] at z ⊢; omega))).trans ha) (by rw [sset_g (fr_ne h (by decide)), sset_g (fr_ne h (by decide)), sset_g (fr_ne h (by decide))]) 32
theorem recoversS_g {σ : St} {t : Int32} {g : Nat} (h : g ∉ [7, 12, 13, 14, 15, 23, 25, 26]) : recoversS σ t g = σ g := by
  unfold recoversS
  split
  · exact commitsS_g h
  · rw [sset_g (fr_ne h (by decide))]
theorem meetsS1_g {σ : St} {o : Int32} {g : Nat} (h : g ∉ [7, 12, 13, 14, 15, 23, 25, 26]) : meetsS1 σ o g = σ g := by
  unfold meetsS1
  split
  · exact recoversS_g h
  · rfl
theorem meetsS_g {σ : St} {t key : Int32} {g : Nat} (h : g ∉ [7, 12, 13, 14, 15, 23, 25, 26]) : meetsS σ t key g = σ g := by
  unfold meetsS
  split
  · rfl
  · have e2 : ∀ σ' o, meetsS2 σ' o g = σ' g := fun σ' o => by
      unfold meetsS2
      split
      · rw [sset_g (fr_ne h (by decide))]
      · rfl
    have e3 : ∀ σ' o, meetsS3 σ' o key g = σ' g := fun σ' o => by
      unfold meetsS3
      split
      · rw [sset_g (fr_ne h (by decide))]
      · rfl
    rw [e3, e2, meetsS1_g h]
theorem refStep_g {t to : Int32} {k : Nat} {p : St × Bool} {g : Nat} (h : g ∉ [7, 12, 13, 14, 15, 23, 25, 26]) : (refStep t to k p).1 g = p.1 g := by
  unfold refStep
  split
  · split
    · rfl
    · split
      · exact meetsS_g h
      · rfl
  · rfl
theorem refn_g {t to : Int32} {g : Nat} (h : g ∉ [7, 12, 13, 14, 15, 23, 25, 26]) {p : St × Bool} : ∀ n, (iter (refStep t to) n p).1 g = p.1 g
  | 0 => by rw [iter_0]
  | n + 1 => by rw [iter_s, refStep_g h]; exact refn_g h n
theorem refS_g {σ : St} {t to : Int32} {g : Nat} (h : g ∉ [7, 12, 13, 14, 15, 23, 25, 26, 10, 11]) : refS σ t to g = σ g := by
  have h1 : g ∉ [7, 12, 13, 14, 15, 23, 25, 26] := fun z => h (by simp only [List.mem_cons, List.not_mem_nil, or_false] at z ⊢; omega)
  have h2 : g ∉ [10, 11] := fun z => h (by simp only [List.mem_cons, List.not_mem_nil, or_false] at z ⊢; omega)
  have e : (iter (refStep t to) 32 (σ, true)).1 g = σ g := refn_g h1 32
  unfold refS
  split
  · exact iter_inv (P := fun (a : St) => a g = σ g) (fun k a ha => by
      unfold refMark
      split
      · exact ha
      · rw [marksS_g h2]; exact ha) e 32
  · exact e
theorem resn_g {t : Int32} {g : Nat} (h : g ≠ 7) {σ : St} : ∀ n, iter (resStep t) n σ g = σ g := fun n =>
  iter_inv (P := fun (a : St) => a g = σ g) (fun k a ha => by
    unfold resStep
    split
    · rw [sset_g h]; exact ha
    · exact ha) rfl n
theorem restartsS_g {σ : St} {t st : Int32} {g : Nat} (h : g ∉ [7, 28, 29, 19, 20]) : restartsS σ t st g = σ g := by
  have h2 : g ∉ [28, 29] := fun z => h (by simp only [List.mem_cons, List.not_mem_nil, or_false] at z ⊢; omega)
  show sset (sset _ 19 t _) 20 t _ g = _
  rw [sset_g (fr_ne h (by decide)), sset_g (fr_ne h (by decide)), forgetsS_g h2, resn_g (fr_ne h (by decide))]
theorem anewS_g {σ : St} {t o : Int32} {g : Nat} (h : g ∉ [23, 24]) : anewS σ t o g = σ g := by
  unfold anewS
  split
  · rw [sset_g (fr_ne h (by decide)), sset_g (fr_ne h (by decide)), sset_g (fr_ne h (by decide))]
  · rw [sset_g (fr_ne h (by decide))]
theorem opensS_g {σ : St} {t key : Int32} {g : Nat} (h : g ∉ [24, 2, 27]) : opensS σ t key g = σ g := by
  have h1 : opensS1 σ t key g = σ g := by
    unfold opensS1
    rw [sset_g (fr_ne h (by decide)), sset_g (fr_ne h (by decide))]
  unfold opensS
  split
  · split
    · rw [sset_g (fr_ne h (by decide))]
      unfold asksS
      rw [sset_g (fr_ne h (by decide)), h1]
    · exact h1
  · rfl
theorem asksS_g {σ : St} {x : Int32} {g : Nat} (h : g ∉ [2]) : asksS σ x g = σ g := by
  unfold asksS
  rw [sset_g (fr_ne h (by decide))]
theorem iter_stop {α : Type} {f : Nat → α → α} {m n : Nat} {a p : α} (h : iter f m a = p) (hp : ∀ k, f k p = p) (hmn : m ≤ n) : iter f n a = p := by
  induction n with
  | zero => rw [show m = 0 by omega] at h; exact h
  | succ n ih =>
    by_cases e : m = n + 1
    · rw [← e]; exact h
    · rw [iter_s, ih (by omega), hp]
theorem ring_stop {σ : St} {t : Int32} {p : Int32 × Int32} (h : p.2 = -1 ∨ p.2 = t) : ∀ n, ringGo σ t n p = p
  | 0 => ringGo_0
  | n + 1 => by rw [ringGo_s, if_pos h]
theorem ring_step {σ : St} {t : Int32} {p : Int32 × Int32} {j : Nat} (hj : j < 40) (h1 : ¬ p.2 = -1) (h2 : ¬ p.2 = t) : ringGo σ t (40 - j) p = ringGo σ t (40 - (j + 1)) (if lessB σ p.2 p.1 = true then p.2 else p.1, waitsF σ p.2) := by
  rw [show 40 - j = (40 - (j + 1)) + 1 by omega, ringGo_s, if_neg (fun h => h.elim h1 h2)]
theorem waitsF_ir {B : Nat} {σ : St} (h : WfM B σ) {t : Int32} : waitsF σ t = -1 ∨ ir (waitsF σ t) (nI 40) := by
  unfold waitsF
  split
  · next c => exact Or.inr (h.wai c.2.1)
  · exact Or.inl rfl
theorem m18 {σ : St} {t key j : Int32} : meetsS σ t key 18 j = σ 18 j := congrFun (meetsS_g (by decide)) j
theorem m19 {σ : St} {t key j : Int32} : meetsS σ t key 19 j = σ 19 j := congrFun (meetsS_g (by decide)) j
theorem m20 {σ : St} {t key j : Int32} : meetsS σ t key 20 j = σ 20 j := congrFun (meetsS_g (by decide)) j
theorem fg20 {σ : St} {t j : Int32} : forgetsS σ t 20 j = σ 20 j := congrFun (forgetsS_g (by decide)) j
theorem r19 {σ : St} {t to j : Int32} : refS σ t to 19 j = σ 19 j := congrFun (refS_g (by decide)) j
theorem r20 {σ : St} {t to j : Int32} : refS σ t to 20 j = σ 20 j := congrFun (refS_g (by decide)) j
/-! a write elsewhere changes no answer -/
theorem closed_oth {σ : St} {f : Nat} {i v : Int32} (h0 : 0 ≠ f) : closedF (sset σ f i v) = closedF σ := by
  unfold closedF
  rw [sset_f h0]
theorem van_oth {σ : St} {f : Nat} {i v t : Int32} (h0 : 0 ≠ f) (h1 : 22 ≠ f) (h2 : 23 ≠ f) : vanB (sset σ f i v) t = vanB σ t := by
  unfold vanB
  rw [sset_f h0, sset_f h1, sset_f h2]
theorem waits_oth {σ : St} {f : Nat} {i v t : Int32} (h1 : 23 ≠ f) (h2 : 24 ≠ f) : waitsF (sset σ f i v) t = waitsF σ t := by
  unfold waitsF
  rw [sset_f h1, sset_f h2, sset_f h1]
theorem cnt28_oth {σ : St} {f : Nat} {i v t : Int32} (h : 28 ≠ f) : countsF (sset σ f i v) 28 t = countsF σ 28 t := by
  unfold countsF
  congr 1
  funext k n
  unfold cntStep
  rw [sset_f h]
theorem cnt29_oth {σ : St} {f : Nat} {i v t : Int32} (h : 29 ≠ f) : countsF (sset σ f i v) 29 t = countsF σ 29 t := by
  unfold countsF
  congr 1
  funext k n
  unfold cntStep
  rw [sset_f h]
theorem lat_oth {σ : St} {f : Nat} {i v key st : Int32} (h0 : 12 ≠ f) (h1 : 13 ≠ f) (h2 : 14 ≠ f) : latestF (sset σ f i v) key st = latestF σ key st := by
  unfold latestF
  rw [sset_f h0]
  congr 1
  funext k n
  unfold latStep
  rw [sset_f h1, sset_f h2]
theorem val_oth {σ : St} {f : Nat} {i v key st : Int32} (h0 : 12 ≠ f) (h1 : 13 ≠ f) (h2 : 14 ≠ f) (h3 : 15 ≠ f) : valueAtF (sset σ f i v) key st = valueAtF σ key st := by
  unfold valueAtF
  rw [sset_f h0, lat_oth h0 h1 h2]
  congr 1
  funext k n
  unfold valStep
  rw [sset_f h1, sset_f h2, sset_f h3]
theorem nv_oth {σ : St} {f : Nat} {i v key : Int32} (h0 : 12 ≠ f) (h1 : 13 ≠ f) : nVersF (sset σ f i v) key = nVersF σ key := by
  unfold nVersF
  rw [sset_f h0]
  congr 1
  funext k n
  unfold nvStep
  rw [sset_f h1]
theorem rsv_oth {σ : St} {f : Nat} {i v : Int32} (h0 : 0 ≠ f) (h1 : 16 ≠ f) (h2 : 20 ≠ f) (h3 : 23 ≠ f) : resolvedF (sset σ f i v) = resolvedF σ := by
  unfold resolvedF
  rw [sset_f h1, closed_oth h0]
  congr 1
  funext k n
  unfold rsvStep
  rw [sset_f h2, sset_f h3]
theorem ahead_oth {σ : St} {f : Nat} {i v a b : Int32} (h0 : 20 ≠ f) (h1 : 25 ≠ f) : aheadB (sset σ f i v) a b = aheadB σ a b := by
  unfold aheadB
  simp only [sset_f h0, sset_f h1]
theorem next_oth {σ : St} {f : Nat} {i v last : Int32} (h0 : 16 ≠ f) (h1 : 20 ≠ f) (h2 : 23 ≠ f) (h3 : 25 ≠ f) : nextF (sset σ f i v) last = nextF σ last := by
  unfold nextF
  rw [sset_f h0]
  congr 1
  funext k n
  unfold nextStep
  rw [sset_f h2, ahead_oth h1 h3, ahead_oth h1 h3]
theorem feedN_oth {σ : St} {f : Nat} {i v st last : Int32} (h0 : 12 ≠ f) (h1 : 13 ≠ f) (h2 : 14 ≠ f) : feedNext (sset σ f i v) st last = feedNext σ st last := by
  unfold feedNext
  rw [sset_f h0]
  congr 1
  funext k n
  unfold feedStep
  rw [sset_f h1, sset_f h2]
theorem tr_ir {B : Nat} {σ : St} {t : Int32} (h : WfM B σ) (c : transB σ t = true) : ir t (nI 40) := by
  obtain ⟨h1, h2⟩ := h.2.2.2.1
  unfold transB inB at c
  simp only [Bool.and_eq_true, Bool.not_eq_true', decide_eq_false_iff_not] at c
  rw [ir_int (by decide)]
  rw [i_le] at h1 h2
  rw [i_lt, i_lt] at c
  have e0 : (0 : Int32).toInt = 0 := by decide
  have e1 : (1 : Int32).toInt = 1 := by decide
  have e4 : (40 : Int32).toInt = 40 := by decide
  rw [i_sub (by omega) (by omega)] at c
  omega
theorem th_ir {B : Nat} {σ : St} {t key : Int32} (h : WfM B σ) (c : thereB σ t key = true) : ir t (nI 40) ∧ ir key (nI 32) := by
  unfold thereB at c
  rw [Bool.and_eq_true] at c
  exact ⟨tr_ir h c.1, ir_of (hi := 31) (by decide) (by decide) (by decide) c.2⟩
theorem WfM.m40 {B : Nat} {σ : St} (h : WfM B σ) : nat (σ 16 0) ≤ 40 := by
  obtain ⟨h1, h2⟩ := h.2.2.2.1
  rw [i_le] at h1 h2
  have e0 : (0 : Int32).toInt = 0 := by decide
  have e4 : (40 : Int32).toInt = 40 := by decide
  have := (i_nat (a := σ 16 0) (by omega)).2
  unfold nat
  omega
