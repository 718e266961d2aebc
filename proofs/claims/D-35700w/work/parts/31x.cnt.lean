/-! counts that fall: the ends of feed's, judged's, get's and put's loops -/
def cntS (p : Nat → Bool) (k m : Nat) : Nat := if p k = true then m + 1 else m
noncomputable def cntP (p : Nat → Bool) (n : Nat) : Nat := iter (cntS p) n 0
theorem cntP_0 {p : Nat → Bool} : cntP p 0 = 0 := iter_0
theorem cntP_s {p : Nat → Bool} {n : Nat} : cntP p (n + 1) = if p n = true then cntP p n + 1 else cntP p n := by
  unfold cntP
  rw [iter_s]
  rfl
theorem cntP_le {p q : Nat → Bool} : ∀ n, (∀ k, k < n → q k = true → p k = true) → cntP q n ≤ cntP p n
  | 0, _ => by rw [cntP_0, cntP_0]; exact Nat.le_refl _
  | n + 1, h => by
    have ih := cntP_le n (fun k hk => h k (by omega))
    rw [cntP_s, cntP_s]
    by_cases c : q n = true
    · rw [if_pos c, if_pos (h n (by omega) c)]; omega
    · rw [if_neg c]; split <;> omega
theorem cntP_lt {p q : Nat → Bool} {k0 : Nat} (hq : q k0 = false) (hp : p k0 = true) : ∀ n, k0 < n → (∀ k, k < n → q k = true → p k = true) → cntP q n < cntP p n
  | 0, h0, _ => absurd h0 (by omega)
  | n + 1, h0, h => by
    rw [cntP_s, cntP_s]
    by_cases e : k0 = n
    · subst e
      have := cntP_le (p := p) (q := q) k0 (fun k hk => h k (by omega))
      rw [if_neg (by rw [hq]; exact fun z => by cases z), if_pos hp]
      omega
    · have ih := cntP_lt hq hp n (by omega) (fun k hk => h k (by omega))
      by_cases c : q n = true
      · rw [if_pos c, if_pos (h n (by omega) c)]; omega
      · rw [if_neg c]; split <;> omega
theorem cntP_n {p : Nat → Bool} : ∀ n, cntP p n ≤ n
  | 0 => by rw [cntP_0]; exact Nat.le_refl _
  | n + 1 => by
    have := cntP_n (p := p) n
    rw [cntP_s]
    split <;> omega
theorem cntP_congr {p q : Nat → Bool} : ∀ n, (∀ k, k < n → p k = q k) → cntP p n = cntP q n
  | 0, _ => by rw [cntP_0, cntP_0]
  | n + 1, h => by rw [cntP_s, cntP_s, h n (by omega), cntP_congr n (fun k hk => h k (by omega))]
/-! feed -/
def itsF (σ : St) (k : Nat) : Int32 := 32 * σ 14 (nI k) + σ 13 (nI k)
noncomputable def fCnt (σ : St) (last : Int32) : Nat := cntP (fun k => !decide (itsF σ k ≤ last)) (nat (σ 12 0))
theorem feedN_spec {σ : St} {st last : Int32} : ∀ n, iter (feedStep σ st last) n (-1) = -1 ∨ (¬ iter (feedStep σ st last) n (-1) ≤ last ∧ ∃ k, k < n ∧ iter (feedStep σ st last) n (-1) = itsF σ k)
  | 0 => by rw [iter_0]; exact Or.inl rfl
  | n + 1 => by
    rw [iter_s]
    have ih := feedN_spec (σ := σ) (st := st) (last := last) n
    generalize iter (feedStep σ st last) n (-1) = b at ih ⊢
    unfold feedStep
    split
    · next c => exact Or.inr ⟨c.2.1, n, by omega, rfl⟩
    · rcases ih with h | ⟨h1, k, h2, h3⟩
      · exact Or.inl h
      · exact Or.inr ⟨h1, k, by omega, h3⟩
theorem fCnt_lt {σ : St} {st last : Int32} (h : ¬ feedNext σ st last = -1) : fCnt σ (feedNext σ st last) < fCnt σ last := by
  rcases feedN_spec (σ := σ) (st := st) (last := last) (nat (σ 12 0)) with h1 | ⟨h1, k, h2, h3⟩
  · exact absurd h1 h
  · unfold fCnt
    have e : feedNext σ st last = itsF σ k := h3
    have h1 : ¬ feedNext σ st last ≤ last := h1
    refine cntP_lt (k0 := k) ?_ ?_ _ h2 ?_
    · rw [e]; simp
    · rw [e] at h1; simpa using h1
    · intro j hj c
      simp only [Bool.not_eq_true', decide_eq_false_iff_not] at c ⊢
      rw [i_le] at c h1 ⊢
      omega
/-! order and judged -/
theorem order_stop {σ : St} : ∀ n, orderGo σ n (-1) = -1
  | 0 => orderGo_0
  | n + 1 => by rw [orderGo_s, if_pos rfl]
theorem order_step {σ : St} {P j : Nat} {v : Int32} (hj : j < P) (hv : ¬ v = -1) : orderGo σ (P - j) v = orderGo σ (P - (j + 1)) (nextF σ v) := by
  rw [show P - j = (P - (j + 1)) + 1 by omega, orderGo_s, if_neg hv]
theorem jd_stop {p : St × Int32} : ∀ n, jdGo n (-1) p = p
  | 0 => jdGo_0
  | n + 1 => by rw [jdGo_s, if_pos rfl]
theorem ahead_tr {σ : St} {a b c : Int32} (h1 : aheadB σ a b = true) (h2 : aheadB σ b c = true) : aheadB σ a c = true := by
  unfold aheadB at *
  simp only [Bool.or_eq_true, Bool.and_eq_true, decide_eq_true_eq, Bool.not_eq_true', decide_eq_false_iff_not] at *
  rw [i_lt, i_eq, i_le] at *
  omega
theorem ahead_ir {σ : St} {a : Int32} : aheadB σ a a = false := by
  unfold aheadB
  simp
noncomputable def aCnt (σ : St) (t : Int32) : Nat := cntP (fun k => decide (σ 23 (nI k) = 2) && aheadB σ t (nI k)) (nat (σ 16 0))
theorem nextN_spec {σ : St} {last : Int32} : ∀ n, iter (nextStep σ last) n (-1) = -1 ∨ ∃ k, k < n ∧ iter (nextStep σ last) n (-1) = nI k ∧ σ 23 (nI k) = 2 ∧ (last = -1 ∨ aheadB σ last (nI k) = true)
  | 0 => by rw [iter_0]; exact Or.inl rfl
  | n + 1 => by
    rw [iter_s]
    have ih := nextN_spec (σ := σ) (last := last) n
    generalize iter (nextStep σ last) n (-1) = b at ih ⊢
    unfold nextStep
    split
    · next c => exact Or.inr ⟨n, by omega, rfl, c.1, c.2.1⟩
    · rcases ih with h | ⟨k, h1, h2⟩
      · exact Or.inl h
      · exact Or.inr ⟨k, by omega, h2⟩
theorem nextF_spec {σ : St} {last : Int32} : nextF σ last = -1 ∨ ∃ k, k < nat (σ 16 0) ∧ nextF σ last = nI k ∧ σ 23 (nI k) = 2 ∧ (last = -1 ∨ aheadB σ last (nI k) = true) := nextN_spec _
theorem nextF_ir {B : Nat} {σ : St} (h : WfM B σ) {last : Int32} : nextF σ last = -1 ∨ ir (nextF σ last) (nI 40) := by
  rcases nextF_spec (σ := σ) (last := last) with e | ⟨k, h1, h2, -⟩
  · exact Or.inl e
  · rw [h2]; exact Or.inr (ir_nI (Nat.lt_of_lt_of_le h1 h.m40) (by decide))
theorem aCnt_lt {σ : St} {t : Int32} (ht : ¬ t = -1) (h : ¬ nextF σ t = -1) : aCnt σ (nextF σ t) < aCnt σ t := by
  rcases nextF_spec (σ := σ) (last := t) with e | ⟨k, h1, h2, h3, h4⟩
  · exact absurd e h
  · have h4 := h4.resolve_left ht
    unfold aCnt
    refine cntP_lt (k0 := k) ?_ ?_ _ h1 ?_
    · rw [h2, ahead_ir]; simp
    · rw [h3, h4]; rfl
    · intro j hj c
      rw [Bool.and_eq_true] at c ⊢
      rw [h2] at c
      exact ⟨c.1, ahead_tr h4 c.2⟩
theorem aCnt_40 {B : Nat} {σ : St} (h : WfM B σ) {t : Int32} : aCnt σ t < 41 := by
  have h1 := cntP_n (p := fun k => decide (σ 23 (nI k) = 2) && aheadB σ t (nI k)) (nat (σ 16 0))
  have h2 := h.m40
  unfold aCnt
  omega
theorem next_cong {σ σ' : St} (h : ∀ g, g ≠ 30 → σ' g = σ g) (a : Int32) : nextF σ' a = nextF σ a := by
  have e : ∀ x y, aheadB σ' x y = aheadB σ x y := fun x y => by
    unfold aheadB
    rw [h 20 (by decide), h 25 (by decide)]
  unfold nextF
  rw [h 16 (by decide)]
  congr 1
  funext k n
  unfold nextStep
  rw [h 23 (by decide), e, e]
theorem jdInit_g {σ : St} {g : Nat} (h : g ≠ 30) (n : Nat) : iter jdInit n σ g = σ g :=
  iter_inv (P := fun (a : St) => a g = σ g) (fun k a ha => by unfold jdInit; rw [sset_g h]; exact ha) rfl n
theorem jdWrite_g {σ : St} {t : Int32} {g : Nat} (h : g ≠ 30) (n : Nat) : iter (jdWrite t) n σ g = σ g :=
  iter_inv (P := fun (a : St) => a g = σ g) (fun k a ha => by unfold jdWrite; rw [sset_g h]; exact ha) rfl n
/-! get and put: those that stand -/
noncomputable def pend (σ : St) : Nat := cntP (fun k => decide (σ 23 (nI k) = 0)) 40
theorem pend_40 (σ : St) : pend σ ≤ 40 := cntP_n 40
theorem pend_le {σ σ' : St} (h : ∀ i, σ' 23 i = 0 → σ 23 i = 0) : pend σ' ≤ pend σ := cntP_le 40 (fun k _ c => by
  rw [decide_eq_true_eq] at c ⊢
  exact h _ c)
theorem pend_lt {σ σ' : St} {v : Int32} (hv : ir v (nI 40)) (h : ∀ i, σ' 23 i = 0 → σ 23 i = 0) (h0 : σ 23 v = 0) (h1 : ¬ σ' 23 v = 0) : pend σ' < pend σ := by
  obtain ⟨j, hj, e, -⟩ := ir_nat (by decide) hv
  subst e
  exact cntP_lt (k0 := j) (by simp [h1]) (by simp [h0]) 40 hj (fun k _ c => by
    rw [decide_eq_true_eq] at c ⊢
    exact h _ c)
/-- states never come back to standing -/
theorem sset23_0 {σ : St} {o v : Int32} (hv : ¬ v = 0) : ∀ i, sset σ 23 o v 23 i = 0 → σ 23 i = 0 := fun i h => by
  by_cases e : i = o
  · subst e; rw [sset_eq] at h; exact absurd h hv
  · rw [sset_i e] at h; exact h
theorem commits23 {σ : St} {t : Int32} : ∀ i, commitsS σ t 23 i = 0 → σ 23 i = 0 := fun i h => by
  have e : commitsS σ t 23 i = sset σ 23 t 2 23 i := by
    have := iter_inv (P := fun (a : St) => a 23 = (sset (sset (sset σ 23 t 2) 25 t (σ 26 0)) 26 0 (σ 26 0 + 1)) 23) (f := comStep t) (fun k a ha => (comStep_g (by decide)).trans ha) rfl 32
    rw [show commitsS σ t 23 = _ from this, sset_f (by decide), sset_f (by decide)]
  rw [e] at h
  exact sset23_0 (by decide) i h
theorem recovers23 {σ : St} {t : Int32} : ∀ i, recoversS σ t 23 i = 0 → σ 23 i = 0 := fun i h => by
  unfold recoversS at h
  split at h
  · exact commits23 i h
  · exact sset23_0 (by decide) i h
theorem meets23 {σ : St} {t key : Int32} : ∀ i, meetsS σ t key 23 i = 0 → σ 23 i = 0 := fun i h => by
  unfold meetsS at h
  split at h
  · exact h
  · have h3 : ∀ σ' o, meetsS3 σ' o key 23 = σ' 23 := fun σ' o => by
      unfold meetsS3
      split
      · rw [sset_g (by decide)]
      · rfl
    have h2 : ∀ σ' o, meetsS2 σ' o 23 i = 0 → σ' 23 i = 0 := fun σ' o z => by
      unfold meetsS2 at z
      split at z
      · exact sset23_0 (by decide) i z
      · exact z
    have h1 : ∀ σ' o, meetsS1 σ' o 23 i = 0 → σ' 23 i = 0 := fun σ' o z => by
      unfold meetsS1 at z
      split at z
      · exact recovers23 i z
      · exact z
    rw [h3] at h
    exact h1 _ _ (h2 _ _ h)
theorem ref23 {σ : St} {t to : Int32} : ∀ i, refS σ t to 23 i = 0 → σ 23 i = 0 := fun i h => by
  have h1 : ∀ n, (iter (refStep t to) n (σ, true)).1 23 i = 0 → σ 23 i = 0 := by
    intro n
    induction n with
    | zero => intro z; rw [iter_0] at z; exact z
    | succ n ih =>
      intro z
      rw [iter_s] at z
      refine ih ?_
      unfold refStep at z
      split at z
      · split at z
        · exact z
        · split at z
          · exact meets23 i z
          · exact z
      · exact z
  refine h1 32 ?_
  unfold refS at h
  split at h
  · have e : ∀ (σ' : St), iter (refMark t to) 32 σ' 23 = σ' 23 := fun σ' => iter_inv (P := fun (a : St) => a 23 = σ' 23) (fun k a ha => by
      unfold refMark
      split
      · exact ha
      · rw [marksS_g (by decide)]; exact ha) rfl 32
    rw [e] at h
    exact h
  · exact h
/-- the ring's victim stands -/
theorem ring_pend {σ : St} {t : Int32} : ∀ n (p : Int32 × Int32), σ 23 p.1 = 0 → (p.2 = -1 ∨ p.2 = t ∨ σ 23 p.2 = 0) → σ 23 (ringGo σ t n p).1 = 0
  | 0, p, h, _ => by rw [ringGo_0]; exact h
  | n + 1, p, h, h2 => by
    rw [ringGo_s]
    split
    · exact h
    · next c =>
      have h3 : σ 23 p.2 = 0 := (h2.resolve_left (fun z => c (Or.inl z))).resolve_left (fun z => c (Or.inr z))
      refine ring_pend n _ ?_ ?_
      · show σ 23 (if lessB σ p.2 p.1 = true then p.2 else p.1) = 0
        split
        · exact h3
        · exact h
      · show waitsF σ p.2 = -1 ∨ _ ∨ σ 23 (waitsF σ p.2) = 0
        unfold waitsF
        split
        · next c2 => exact Or.inr (Or.inr c2.2.2)
        · exact Or.inl rfl
theorem ring_irv {B : Nat} {σ : St} (hW : WfM B σ) {t : Int32} : ∀ n (p : Int32 × Int32), ir p.1 (nI 40) → (p.2 = -1 ∨ ir p.2 (nI 40)) → ir (ringGo σ t n p).1 (nI 40)
  | 0, p, h, _ => by rw [ringGo_0]; exact h
  | n + 1, p, h, h2 => by
    rw [ringGo_s]
    split
    · exact h
    · next c =>
      refine ring_irv hW n _ ?_ (waitsF_ir hW)
      show ir (if lessB σ p.2 p.1 = true then p.2 else p.1) (nI 40)
      split
      · exact h2.resolve_left (fun z => c (Or.inl z))
      · exact h
theorem meetsF_0 {σ : St} {t key : Int32} (h : ¬ meetsF σ t key = -1) : meetsS σ t key 23 (meetsF σ t key) = 0 ∧ ¬ meetsF σ t key = t := by
  unfold meetsF at h ⊢
  split
  · next c => rw [if_pos c] at h; exact absurd rfl h
  · next c =>
    rw [if_neg c] at h
    split
    · next c2 => exact ⟨c2, fun z => c (Or.inr z)⟩
    · next c2 => rw [if_neg c2] at h; exact absurd rfl h
/-- another one of the ring was aborted: fewer stand -/
theorem anew_lt {B : Nat} {σ : St} {t o : Int32} (hW : WfM B σ) (ht : ir t (nI 40)) (ho : ir o (nI 40)) (h0 : σ 23 t = 0) (h1 : σ 23 o = 0) (h : anewB σ t o = true) : pend (anewS σ t o) < pend σ := by
  unfold anewB at h
  simp only [Bool.and_eq_true, decide_eq_true_eq, Bool.not_eq_true', decide_eq_false_iff_not] at h
  have e : anewS σ t o = sset (sset (sset σ 24 t o) 23 (anewP σ t o).1 3) 24 t (-1) := by
    unfold anewS
    rw [if_pos h.1]
  have hw : WfM B (sset σ 24 t o) := hW.s24 ⟨by
    have := ho.1
    rw [i_le] at this ⊢
    exact Int.le_trans (by decide) this, ho.2⟩
  have hv : ir (anewP σ t o).1 (nI 40) := ring_irv hw 40 _ ht (Or.inr ho)
  have hp : sset σ 24 t o 23 (anewP σ t o).1 = 0 := ring_pend 40 (t, o) (by rw [sset_f (by decide)]; exact h0) (Or.inr (Or.inr (by rw [sset_f (by decide)]; exact h1)))
  rw [sset_f (by decide)] at hp
  rw [e]
  refine pend_lt hv (fun i hi => ?_) hp ?_
  · rw [sset_f (by decide)] at hi
    have := sset23_0 (σ := sset σ 24 t o) (by decide) i hi
    rwa [sset_f (by decide)] at this
  · rw [sset_f (by decide), sset_eq]
    decide
theorem anew_le {σ : St} {t o : Int32} : ∀ i, anewS σ t o 23 i = 0 → σ 23 i = 0 := fun i h => by
  unfold anewS at h
  split at h
  · rw [sset_f (by decide)] at h
    have := sset23_0 (σ := sset σ 24 t o) (by decide) i h
    rwa [sset_f (by decide)] at this
  · rwa [sset_f (by decide)] at h
theorem lat_le {σ : St} {key st : Int32} : ∀ n, iter (latStep σ key st) n (-1) = -1 ∨ ¬ st < iter (latStep σ key st) n (-1)
  | 0 => by rw [iter_0]; exact Or.inl rfl
  | n + 1 => by
    rw [iter_s]
    have ih := lat_le (σ := σ) (key := key) (st := st) n
    generalize iter (latStep σ key st) n (-1) = b at ih ⊢
    unfold latStep
    split
    · next c =>
      unfold gt2
      split
      · exact Or.inr c.2
      · exact ih
    · exact ih
theorem latestF_le {σ : St} {key st : Int32} (h : ¬ latestF σ key st = -1) : latestF σ key st ≤ st := by
  have := (lat_le (σ := σ) (key := key) (st := st) (nat (σ 12 0))).resolve_left h
  have this : ¬ st < latestF σ key st := this
  rw [i_lt] at this
  rw [i_le]
  omega
theorem meets23_t {σ : St} {t key : Int32} : meetsS σ t key 23 t = σ 23 t := by
  unfold meetsS
  split
  · rfl
  · next c =>
    have hne : t ≠ σ 7 key := fun z => c (Or.inr z.symm)
    have h3 : ∀ σ' o, meetsS3 σ' o key 23 = σ' 23 := fun σ' o => by
      unfold meetsS3
      split
      · rw [sset_g (by decide)]
      · rfl
    have h2 : ∀ σ', meetsS2 σ' (σ 7 key) 23 t = σ' 23 t := fun σ' => by
      unfold meetsS2
      split
      · rw [sset_i hne]
      · rfl
    have hc : ∀ σ', commitsS σ' (σ 7 key) 23 t = σ' 23 t := fun σ' => by
      have := iter_inv (P := fun (a : St) => a 23 = (sset (sset (sset σ' 23 (σ 7 key) 2) 25 (σ 7 key) (σ' 26 0)) 26 0 (σ' 26 0 + 1)) 23) (f := comStep (σ 7 key)) (fun k a ha => (comStep_g (by decide)).trans ha) rfl 32
      rw [show commitsS σ' (σ 7 key) 23 = _ from this, sset_f (by decide), sset_f (by decide), sset_i hne]
    have h1 : ∀ σ', meetsS1 σ' (σ 7 key) 23 t = σ' 23 t := fun σ' => by
      unfold meetsS1
      split
      · unfold recoversS
        split
        · exact hc σ'
        · rw [sset_i hne]
      · rfl
    rw [h3, h2, h1]
theorem ref23_t {σ : St} {t to : Int32} : refS σ t to 23 t = σ 23 t := by
  have h1 : ∀ n, (iter (refStep t to) n (σ, true)).1 23 t = σ 23 t := by
    intro n
    induction n with
    | zero => rw [iter_0]
    | succ n ih =>
      rw [iter_s]
      refine Eq.trans ?_ ih
      unfold refStep
      split
      · split
        · rfl
        · split
          · exact meets23_t
          · rfl
      · rfl
  unfold refS
  split
  · have e : ∀ (σ' : St), iter (refMark t to) 32 σ' 23 = σ' 23 := fun σ' => iter_inv (P := fun (a : St) => a 23 = σ' 23) (fun k a ha => by
      unfold refMark
      split
      · exact ha
      · rw [marksS_g (by decide)]; exact ha) rfl 32
    rw [e]
    exact h1 32
  · exact h1 32
theorem anew_t {σ : St} {t o : Int32} (h : anewB σ t o = true) : anewS σ t o 23 t = σ 23 t := by
  unfold anewB at h
  simp only [Bool.and_eq_true, decide_eq_true_eq, Bool.not_eq_true', decide_eq_false_iff_not] at h
  unfold anewS
  rw [if_pos h.1, sset_f (by decide), sset_i (Ne.symm h.2), sset_f (by decide)]
theorem gt_b1 {B : Nat} {s : St} {t key th : Int32} (hB : B ≤ 1000) (hW : WfM B s) (ht : ir t (nI 40)) (h0 : s 23 t = 0) (hm : ¬ meetsF s t key = -1) (ha : anewB (meetsS s t key) t (meetsF s t key) = true) :
    pend (anewS (meetsS s t key) t (meetsF s t key)) + (th.toInt - (anewS (meetsS s t key) t (meetsF s t key) 19 t).toInt).toNat < pend s + (th.toInt - (s 19 t).toInt).toNat := by
  have h1 := anew_lt (hW.meets hB (t := t) (key := key)) ht (hW.mF hm) (meets23_t.trans h0) (meetsF_0 hm).1 ha
  have h2 := pend_le (σ := s) (σ' := meetsS s t key) meets23
  rw [show anewS (meetsS s t key) t (meetsF s t key) 19 t = s 19 t by rw [anewS_g (by decide), m19]]
  omega
theorem gt_b2 {s σ2 : St} {t key th nw : Int32} {x : Int32} (h1 : ∀ i, σ2 23 i = 0 → s 23 i = 0) (hn : nw = latestF σ2 key th) (h19 : 0 ≤ s 19 t) (hc : ¬ nw ≤ s 19 t) :
    pend (sset (sset (refS σ2 t nw) 19 t nw) 20 t x) + (th.toInt - (sset (sset (refS σ2 t nw) 19 t nw) 20 t x 19 t).toInt).toNat < pend s + (th.toInt - (s 19 t).toInt).toNat := by
  have h2 : pend (sset (sset (refS σ2 t nw) 19 t nw) 20 t x) ≤ pend s := pend_le (fun i hi => by
    rw [sset_f (by decide), sset_f (by decide)] at hi
    exact h1 i (ref23 i hi))
  rw [sset_f (by decide), sset_eq]
  rw [i_le] at h19 hc
  have e0 : (0 : Int32).toInt = 0 := by decide
  have h3 : nw ≤ th := by
    rw [hn]
    refine latestF_le (fun z => ?_)
    rw [hn, z] at hc
    have e1 : (-1 : Int32).toInt = -1 := by decide
    omega
  rw [i_le] at h3
  omega
theorem pt_b1 {B : Nat} {s : St} {t key : Int32} (hB : B ≤ 1000) (hW : WfM B s) (ht : ir t (nI 40)) (h0 : s 23 t = 0) (hm : ¬ meetsF s t key = -1) (ha : anewB (meetsS s t key) t (meetsF s t key) = true) : pend (anewS (meetsS s t key) t (meetsF s t key)) < pend s := by
  have h1 := anew_lt (hW.meets hB (t := t) (key := key)) ht (hW.mF hm) (meets23_t.trans h0) (meetsF_0 hm).1 ha
  have h2 := pend_le (σ := s) (σ' := meetsS s t key) meets23
  omega
theorem pt_b2 {B : Nat} {s : St} {t key : Int32} (hW : WfM B s) (hm : ¬ meetsF s t key = -1) : pend (sset (sset (meetsS s t key) 23 (meetsF s t key) 3) 7 key (-1)) < pend s := by
  have h2 := pend_le (σ := s) (σ' := meetsS s t key) meets23
  have h3 : pend (sset (sset (meetsS s t key) 23 (meetsF s t key) 3) 7 key (-1)) < pend (meetsS s t key) := pend_lt (hW.mF hm) (fun i hi => by
    rw [sset_f (by decide)] at hi
    exact sset23_0 (by decide) i hi) (meetsF_0 hm).1 (by rw [sset_f (by decide), sset_eq]; decide)
  omega
theorem opens23 {σ : St} {t key : Int32} (h : opensF σ t key = 0) : σ 23 t = 0 := by
  unfold opensF at h
  split at h
  · next c => exact c
  · exact absurd h (by decide)
