/-! THE REFERENCE's OBJECT: its memory holds σ; rows for its fields and arrays -/
set_option maxRecDepth 100000
def ir (i L : Int32) : Prop := 0 ≤ i ∧ i < L
theorem ir_nI {j : Nat} {L : Nat} (h : j < L) (hL : L < 2 ^ 31) : ir (nI j) (nI L) := ⟨nI_pos' (by omega), nI_lt h hL⟩
theorem ir_in {i : Int32} {n : Nat} (hn : n < 2 ^ 31) (h : ir i (nI n)) : vp_in i n := by
  rw [vp_in_iff]
  obtain ⟨h1, h2⟩ := h
  rw [Int32.le_iff_toInt_le] at h1
  rw [Int32.lt_iff_toInt_lt, nI_toInt hn] at h2
  exact ⟨by simpa using h1, h2⟩
theorem ir_nat {i : Int32} {n : Nat} (hn : n < 2 ^ 31) (h : ir i (nI n)) : ∃ j : Nat, j < n ∧ i = nI j ∧ i.toNatClampNeg = j := by
  obtain ⟨j, h1, h2⟩ := vp_in_of (ir_in hn h) hn
  exact ⟨j, h1, h2, by rw [h2]; exact nI_clamp (by omega)⟩
def mIs (f : Nat) : Bool := [1, 2, 3, 5, 6, 7, 8, 9, 10, 11, 13, 14, 15, 17, 18, 19, 20, 21, 22, 23, 24, 25, 27, 28, 29, 30].contains f
def mTi (f : Nat) : Nat := if f = 3 ∨ f = 8 then 1 else 0
def mLen (f : Nat) : Nat := match f with
  | 1 => 4
  | 2 => 4
  | 3 => 4
  | 13 => 1300
  | 14 => 1300
  | 15 => 1300
  | 17 => 40
  | 18 => 40
  | 19 => 40
  | 20 => 40
  | 21 => 40
  | 22 => 40
  | 23 => 40
  | 24 => 40
  | 25 => 40
  | 27 => 160
  | 28 => 1280
  | 29 => 1280
  | _ => 32
theorem mLen_lt (f : Nat) : mLen f < 2 ^ 31 := by
  unfold mLen
  split <;> decide
def mFs (ad : Nat → Nat) (σ : St) : List Value := [.int (σ 0 0), .ref (ad 1), .ref (ad 2), .ref (ad 3), .int (σ 4 0), .ref (ad 5), .ref (ad 6), .ref (ad 7), .ref (ad 8), .ref (ad 9), .ref (ad 10), .ref (ad 11), .int (σ 12 0), .ref (ad 13), .ref (ad 14), .ref (ad 15), .int (σ 16 0), .ref (ad 17), .ref (ad 18), .ref (ad 19), .ref (ad 20), .ref (ad 21), .ref (ad 22), .ref (ad 23), .ref (ad 24), .ref (ad 25), .int (σ 26 0), .ref (ad 27), .ref (ad 28), .ref (ad 29), .ref (ad 30), .int (σ 31 0)]
def RepM (Γ : Gm) (ad : Nat → Nat) (σ : St) (μ : Mem) : Prop :=
  μ (ad 0) = some (.inr (0, mFs ad σ), 0) ∧
  (∀ f, mIs f = true → ∃ g : Nat → Int32, μ (ad f) = some (.inl (Γ.2.1 (mTi f), mLen f, .inl g), 0) ∧ ∀ j, j < mLen f → g j = σ f (nI j)) ∧
  ∀ f g, mIs f = true → mIs g = true → ad f = ad g → f = g
theorem RepM.ne0 {Γ : Gm} {ad : Nat → Nat} {σ : St} {μ : Mem} (h : RepM Γ ad σ μ) {f : Nat} (hf : mIs f = true) : ad f ≠ ad 0 := by
  intro e
  obtain ⟨g, h1, -⟩ := h.2.1 f hf
  rw [e, h.1] at h1
  cases h1
theorem mFs_set {ad : Nat → Nat} {σ : St} {j : Nat} {x : Int32} (hj : j ∈ [0, 4, 12, 16, 26, 31]) : (mFs ad σ).set j (.int x) = mFs ad (sset σ j 0 x) := by
  simp only [List.mem_cons, List.not_mem_nil, or_false] at hj
  rcases hj with rfl | rfl | rfl | rfl | rfl | rfl <;> simp [mFs, sset]
theorem mFs_arr {ad : Nat → Nat} {σ : St} {f : Nat} {i x : Int32} (hf : mIs f = true) : mFs ad (sset σ f i x) = mFs ad σ := by
  have h : ∀ j, j ∈ [0, 4, 12, 16, 26, 31] → j ≠ f := by
    intro j hj e
    subst e
    simp only [List.mem_cons, List.not_mem_nil, or_false] at hj
    rcases hj with rfl | rfl | rfl | rfl | rfl | rfl <;> simp [mIs] at hf
  unfold mFs
  rw [sset_f (h 0 (by simp)), sset_f (h 4 (by simp)), sset_f (h 12 (by simp)), sset_f (h 16 (by simp)), sset_f (h 26 (by simp)), sset_f (h 31 (by simp))]
section VM
variable {X : Cx} {Γ : Gm} {A : Nat → Prop} {cc : ByteArray} {nL : Nat} {own : String} {F MC MS : Nat} {Q : State → Prop} {k n : Nat} {μ : Mem} {pc : Nat} {lv : List (Nat × Value)} {st : List Value} {ad : Nat → Nat} {σ : St} {idx : Nat}
theorem vm_get (O : Ok X Γ A cc nL own F MC MS) (hR : RepM Γ ad σ μ) (j : Nat) (hj : Nat.blt j 32 = true) (hq : Cond.fieldLink own idx (TX5 j).1 (TX5 j).2.1 (TX5 j).2.2.1 ∈ lw_all) {v : Value} (hv : (mFs ad σ)[j]? = some v) (hd : decode cc pc = .ok (.getfield idx, 3)) (kk : V X Γ A nL Q k n μ (pc + 3) lv (v :: st)) : V X Γ A nL Q k n μ pc lv (.ref (ad 0) :: st) :=
  v_getf O ci0 hR.1 j hj hq (fun _ h => h) hv hd kk
theorem vm_geti (O : Ok X Γ A cc nL own F MC MS) (hR : RepM Γ ad σ μ) (j : Nat) (hj : Nat.blt j 32 = true) (hq : Cond.fieldLink own idx (TX5 j).1 (TX5 j).2.1 (TX5 j).2.2.1 ∈ lw_all) {x : Int32} (hv : (mFs ad σ)[j]? = some (.int (σ j 0))) (hx : σ j 0 = x) (hd : decode cc pc = .ok (.getfield idx, 3)) (kk : V X Γ A nL Q k n μ (pc + 3) lv (.int x :: st)) : V X Γ A nL Q k n μ pc lv (.ref (ad 0) :: st) :=
  v_getf O ci0 hR.1 j hj hq (fun _ h => h) hv hd (by rw [hx]; exact kk)
theorem vm_put (O : Ok X Γ A cc nL own F MC MS) (hR : RepM Γ ad σ μ) (j : Nat) (hj : j ∈ [0, 4, 12, 16, 26, 31]) (hq : Cond.fieldLink own idx (TX5 j).1 (TX5 j).2.1 (TX5 j).2.2.1 ∈ lw_all) {x : Int32} (hd : decode cc pc = .ok (.putfield idx, 3)) (kk : ∀ μ', RepM Γ ad (sset σ j 0 x) μ' → V X Γ A nL Q k n μ' (pc + 3) lv st) : V X Γ A nL Q k n μ pc lv (.int x :: .ref (ad 0) :: st) := by
  have hty : tyX5 j = .int ∧ (TX5 j).2.2.2 = false ∧ j < 32 ∧ mIs j = false := by
    simp only [List.mem_cons, List.not_mem_nil, or_false] at hj
    rcases hj with rfl | rfl | rfl | rfl | rfl | rfl <;> exact ⟨rfl, rfl, by omega, rfl⟩
  obtain ⟨h1, h2, h3, h4⟩ := hty
  refine v_put O ci0 hR.1 j (Nat.ble_eq_true_of_le (by omega)) hq (fun _ h => h) h2 (v := .int x) (by rw [h1]; rfl) (by rw [h1]; rfl) (by simp [mFs]; omega) hd (kk _ ⟨?_, fun f hf => ?_, hR.2.2⟩)
  · rw [mup_self, mFs_set hj]
  · rw [mup_ne (hR.ne0 hf)]
    obtain ⟨g, g1, g2⟩ := hR.2.1 f hf
    refine ⟨g, g1, fun i hi => ?_⟩
    rw [g2 i hi, sset_f]
    intro e
    rw [e, h4] at hf
    cases hf
theorem vm_iald (O : Ok X Γ A cc nL own F MC MS) (hR : RepM Γ ad σ μ) (f : Nat) (hf : mIs f = true) (ht : mTi f = 0) {i : Int32} (hi : ir i (nI (mLen f))) {x : Int32} (hv : σ f i = x) (hd : decode cc pc = .ok (.iaload, 1)) (kk : V X Γ A nL Q k n μ (pc + 1) lv (.int x :: st)) : V X Γ A nL Q k n μ pc lv (.int i :: .ref (ad f) :: st) := by
  obtain ⟨g, g1, g2⟩ := hR.2.1 f hf
  rw [ht] at g1
  refine v_iald O g1 (ir_in (mLen_lt f) hi) hd ?_
  obtain ⟨j, h1, h2, h3⟩ := ir_nat (mLen_lt f) hi
  rw [h3, g2 j h1, ← h2, hv]
  exact kk
theorem vm_zald (O : Ok X Γ A cc nL own F MC MS) (hR : RepM Γ ad σ μ) (f : Nat) (hf : mIs f = true) (ht : mTi f = 1) {i : Int32} (hi : ir i (nI (mLen f))) {x : Int32} (hv : σ f i = x) (hd : decode cc pc = .ok (.baload, 1)) (kk : V X Γ A nL Q k n μ (pc + 1) lv (.int x :: st)) : V X Γ A nL Q k n μ pc lv (.int i :: .ref (ad f) :: st) := by
  obtain ⟨g, g1, g2⟩ := hR.2.1 f hf
  rw [ht] at g1
  refine v_zald O g1 (ir_in (mLen_lt f) hi) hd ?_
  obtain ⟨j, h1, h2, h3⟩ := ir_nat (mLen_lt f) hi
  rw [h3, g2 j h1, ← h2, hv]
  exact kk
theorem RepM.put (hR : RepM Γ ad σ μ) {f : Nat} (hf : mIs f = true) {i x : Int32} (hi : ir i (nI (mLen f))) {g : Nat → Int32} (hg : ∀ j, j < mLen f → g j = σ f (nI j)) : RepM Γ ad (sset σ f i x) (mup μ (ad f) (.inl (Γ.2.1 (mTi f), mLen f, .inl (upd g i.toNatClampNeg x)), 0)) := by
  obtain ⟨j, h1, h2, h3⟩ := ir_nat (mLen_lt f) hi
  have hlt := mLen_lt f
  refine ⟨by rw [mup_ne (Ne.symm (hR.ne0 hf)), mFs_arr hf]; exact hR.1, fun f' hf' => ?_, hR.2.2⟩
  by_cases e : f' = f
  · subst e
    refine ⟨_, mup_self _ _ _, fun j' hj' => ?_⟩
    unfold upd
    by_cases e2 : j' = j
    · rw [h3, if_pos e2, e2, ← h2, sset_eq]
    · rw [h3, if_neg e2, sset_i (by rw [h2]; exact fun z => e2 ((nI_eq (by omega) (by omega)).mp z))]
      exact hg j' hj'
  · rw [mup_ne (fun z => e (hR.2.2 _ _ hf' hf z))]
    obtain ⟨g', g1, g2⟩ := hR.2.1 f' hf'
    exact ⟨g', g1, fun j' hj' => by rw [sset_f e]; exact g2 j' hj'⟩
theorem vm_iast (O : Ok X Γ A cc nL own F MC MS) (hR : RepM Γ ad σ μ) (f : Nat) (hf : mIs f = true) (ht : mTi f = 0) {i x : Int32} (hi : ir i (nI (mLen f))) (hd : decode cc pc = .ok (.iastore, 1)) (kk : ∀ μ', RepM Γ ad (sset σ f i x) μ' → V X Γ A nL Q k n μ' (pc + 1) lv st) : V X Γ A nL Q k n μ pc lv (.int x :: .int i :: .ref (ad f) :: st) := by
  obtain ⟨g, g1, g2⟩ := hR.2.1 f hf
  have h := hR.put hf (x := x) hi g2
  rw [ht] at g1 h
  exact v_iast O g1 (ir_in (mLen_lt f) hi) hd (kk _ h)
theorem vm_zast (O : Ok X Γ A cc nL own F MC MS) (hR : RepM Γ ad σ μ) (f : Nat) (hf : mIs f = true) (ht : mTi f = 1) {i x : Int32} (hi : ir i (nI (mLen f))) (hx : vp_nar .boolean x = x) (hd : decode cc pc = .ok (.bastore, 1)) (kk : ∀ μ', RepM Γ ad (sset σ f i x) μ' → V X Γ A nL Q k n μ' (pc + 1) lv st) : V X Γ A nL Q k n μ pc lv (.int x :: .int i :: .ref (ad f) :: st) := by
  obtain ⟨g, g1, g2⟩ := hR.2.1 f hf
  have h := hR.put hf (x := x) hi g2
  rw [ht] at g1 h
  exact v_zast O g1 (ir_in (mLen_lt f) hi) hx hd (kk _ h)
/-- branches on a truth value -/
theorem v_if_eq_b (O : Ok X Γ A cc nL own F MC MS) {b : Bool} {off : Int} {tgt : Nat} (hd : decode cc pc = .ok (.ifCond .eq off, 3)) (ht : (pc : Int) + off = (tgt : Int)) (kt : b = false → V X Γ A nL Q k n μ tgt lv st) (kf : b = true → V X Γ A nL Q k n μ (pc + 3) lv st) : V X Γ A nL Q k n μ pc lv (.int (b2i b) :: st) :=
  v_if_eq O hd ht (fun h => by cases b with
    | false => exact kt rfl
    | true => exact absurd h (by decide)) (fun h => by cases b with
    | false => exact absurd rfl h
    | true => exact kf rfl)
theorem v_if_ne_b (O : Ok X Γ A cc nL own F MC MS) {b : Bool} {off : Int} {tgt : Nat} (hd : decode cc pc = .ok (.ifCond .ne off, 3)) (ht : (pc : Int) + off = (tgt : Int)) (kt : b = true → V X Γ A nL Q k n μ tgt lv st) (kf : b = false → V X Γ A nL Q k n μ (pc + 3) lv st) : V X Γ A nL Q k n μ pc lv (.int (b2i b) :: st) :=
  v_if_ne O hd ht (fun h => by cases b with
    | false => exact absurd rfl h
    | true => exact kt rfl) (fun h => by cases b with
    | false => exact kf rfl
    | true => exact absurd h (by decide))
end VM
theorem b2i_nar (b : Bool) : narrow .boolean (.int (b2i b)) = .int (b2i b) := by cases b <;> rfl
theorem nat_eq {x : Int32} (h : 0 ≤ x) : x = nI (nat x) := (i_nat (by rw [i_le] at h; simpa using h)).1
theorem nat_lt (x : Int32) : nat x < 2 ^ 31 := by
  have h := i_bd x
  by_cases c : 0 ≤ x.toInt
  · have := (i_nat c).2
    unfold nat
    omega
  · have : x.toNatClampNeg = 0 := by
      rw [Int32.toNatClampNeg]
      have : x.toBitVec.toInt < 0 := by
        have e : x.toBitVec.toInt = x.toInt := rfl
        omega
      omega
    unfold nat
    omega
theorem ir_int {x : Int32} {n : Nat} (hn : n < 2 ^ 31) : ir x (nI n) ↔ 0 ≤ x.toInt ∧ x.toInt < n := by
  unfold ir
  rw [i_le, i_lt, nI_toInt hn]
  rfl
theorem ir_32 {t : Int32} {k : Nat} (ht : ir t (nI 40)) (hk : k < 32) : ir (32 * t + nI k) (nI 1280) := by
  rw [ir_int (by decide)] at ht ⊢
  have e : (32 : Int32).toInt = 32 := by decide
  have e1 : (32 * t).toInt = 32 * t.toInt := by rw [i_mul] <;> rw [e] <;> omega
  have e2 := nI_toInt (n := k) (by omega)
  rw [i_add] <;> rw [e1, e2] <;> omega
theorem ir_32' {t k : Int32} (ht : ir t (nI 40)) (hk : ir k (nI 32)) : ir (32 * t + k) (nI 1280) := by
  obtain ⟨j, h1, h2, -⟩ := ir_nat (by decide) hk
  rw [h2]; exact ir_32 ht h1
theorem ir_4 {t x : Int32} (ht : ir t (nI 40)) (hx : ir x (nI 4)) : ir (4 * t + x) (nI 160) := by
  rw [ir_int (by decide)] at ht hx ⊢
  have e : (4 : Int32).toInt = 4 := by decide
  have e1 : (4 * t).toInt = 4 * t.toInt := by rw [i_mul] <;> rw [e] <;> omega
  rw [i_add] <;> rw [e1] <;> omega
theorem ir_of {x : Int32} {n : Nat} {hi : Int32} (hh : hi + 1 = nI n) (hn : n < 2 ^ 31) (h0 : 0 < n) (h : inB x 0 hi = true) : ir x (nI n) := by
  unfold inB at h
  simp only [Bool.and_eq_true, Bool.not_eq_true', decide_eq_false_iff_not] at h
  rw [ir_int hn]
  rw [i_lt, i_lt] at h
  have e := congrArg Int32.toInt hh
  rw [nI_toInt hn] at e
  have e0 : (0 : Int32).toInt = 0 := by decide
  have e1 : (1 : Int32).toInt = 1 := by decide
  have hb := i_bd hi
  rw [e0] at h
  by_cases c : hi.toInt = 2147483647
  · have : hi = 2147483647 := by rw [i_eq, c]; decide
    subst this
    have e2 : ((2147483647 : Int32) + 1).toInt = -2147483648 := by decide
    omega
  · rw [i_add] at e <;> omega
