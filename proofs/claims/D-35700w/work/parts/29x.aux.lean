/-! small things for walks over memories -/
section KK
variable {X : Cx} {Γ : Gm} {A : Nat → Prop} {cc : ByteArray} {nL : Nat} {own : String} {F MC MS : Nat} {Q : State → Prop} {k n : Nat} {μ : Mem} {pc : Nat} {lv : List (Nat × Value)} {st rest : List Value} {idx a t : Nat}
theorem v_kI {P : Int32 → Mem → Prop} (kk : ∀ x μ', P x μ' → V X Γ A nL Q k n μ' pc lv (.int x :: rest)) : ∀ v μ', PI P v μ' → V X Γ A nL Q k n μ' pc lv (v.toList ++ rest) := fun v μ' h => by
  obtain ⟨x, rfl, h⟩ := h
  exact kk x μ' h
theorem v_kV {P : Mem → Prop} (kk : ∀ μ', P μ' → V X Γ A nL Q k n μ' pc lv rest) : ∀ v μ', PV P v μ' → V X Γ A nL Q k n μ' pc lv (v.toList ++ rest) := fun v μ' h => by
  obtain ⟨rfl, h⟩ := h
  exact kk μ' h
theorem v_kR {P : Nat → Mem → Prop} (kk : ∀ x μ', P x μ' → V X Γ A nL Q k n μ' pc lv (.ref x :: rest)) : ∀ v μ', PR P v μ' → V X Γ A nL Q k n μ' pc lv (v.toList ++ rest) := fun v μ' h => by
  obtain ⟨x, rfl, h⟩ := h
  exact kk x μ' h
theorem v_kQ {P : Option Nat → Mem → Prop} (kk : ∀ x μ', P x μ' → V X Γ A nL Q k n μ' pc lv (va_rf x :: rest)) : ∀ v μ', PQ P v μ' → V X Γ A nL Q k n μ' pc lv (v.toList ++ rest) := fun v μ' h => by
  obtain ⟨x, rfl, h⟩ := h
  exact kk x μ' h
theorem w_aldq (O : Ok X Γ A cc nL own F MC MS) (ti : Nat) {E : String} (hE : (tysAll Γ)[ti]? = some (Γ.2.1 ti, .object E)) {N : Nat} {f : Nat → Option Nat} {i : Int32} (hμ : μ a = some (.inl (Γ.2.1 ti, N, .inr (.inr (.inr (.inr f)))), t)) (hi : vp_in i N) {v : Value} (hv : va_rf (f i.toNatClampNeg) = v) (hd : decode cc pc = .ok (.aaload, 1)) (kk : V X Γ A nL Q k n μ (pc + 1) lv (v :: st)) : V X Γ A nL Q k n μ pc lv (.int i :: .ref a :: st) :=
  v_aldq O ti hE hμ hi hd (by rw [hv]; exact kk)
theorem w_iadd (O : Ok X Γ A cc nL own F MC MS) {x y : Int32} (z : Int32) (hz : x + y = z) (hd : decode cc pc = .ok (.iadd, 1)) (kk : V X Γ A nL Q k n μ (pc + 1) lv (.int z :: st)) : V X Γ A nL Q k n μ pc lv (.int y :: .int x :: st) := v_iadd O hd (by rw [hz]; exact kk)
theorem w_isub (O : Ok X Γ A cc nL own F MC MS) {x y : Int32} (z : Int32) (hz : x - y = z) (hd : decode cc pc = .ok (.isub, 1)) (kk : V X Γ A nL Q k n μ (pc + 1) lv (.int z :: st)) : V X Γ A nL Q k n μ pc lv (.int y :: .int x :: st) := v_isub O hd (by rw [hz]; exact kk)
theorem w_ishr (O : Ok X Γ A cc nL own F MC MS) {x y : Int32} (z : Int32) (hz : x >>> (y &&& 31) = z) (hd : decode cc pc = .ok (.ishr, 1)) (kk : V X Γ A nL Q k n μ (pc + 1) lv (.int z :: st)) : V X Γ A nL Q k n μ pc lv (.int y :: .int x :: st) := v_ishr O hd (by rw [hz]; exact kk)
theorem w_ishl (O : Ok X Γ A cc nL own F MC MS) {x y : Int32} (z : Int32) (hz : x <<< (y &&& 31) = z) (hd : decode cc pc = .ok (.ishl, 1)) (kk : V X Γ A nL Q k n μ (pc + 1) lv (.int z :: st)) : V X Γ A nL Q k n μ pc lv (.int y :: .int x :: st) := v_ishl O hd (by rw [hz]; exact kk)
theorem w_iand (O : Ok X Γ A cc nL own F MC MS) {x y : Int32} (z : Int32) (hz : x &&& y = z) (hd : decode cc pc = .ok (.iand, 1)) (kk : V X Γ A nL Q k n μ (pc + 1) lv (.int z :: st)) : V X Γ A nL Q k n μ pc lv (.int y :: .int x :: st) := v_iand O hd (by rw [hz]; exact kk)
end KK
theorem Put.isOr {μ μ' : Mem} {a ci t t' y : Nat} {fs fs' : List Value} (h : Put a (.inr (ci, fs), t) (.inr (ci, fs'), t') μ μ') (hy : isO μ y) : isO μ' y := by
  obtain ⟨ci2, fs2, t2, r, h1, h2, h3⟩ := hy
  by_cases e : y = a
  · subst e
    rw [h.1] at h1
    cases h1
    exact ⟨_, _, _, r, h.2.1, h2, h3⟩
  · exact ⟨_, _, _, r, (h.2.2 y e).trans h1, h2, h3⟩
theorem Put.isOl {μ μ' : Mem} {a y : Nat} {x x' : ClassId × vp_A} {t t' : Nat} (h : Put a (.inl x, t) (.inl x', t') μ μ') (hy : isO μ y) : isO μ' y := by
  obtain ⟨ci2, fs2, t2, r, h1, h2, h3⟩ := hy
  exact ⟨_, _, _, r, h.oth h1 (fun z => by cases z), h2, h3⟩
theorem New.isO {μ μ' : Mem} {a y : Nat} {e : va_E × Nat} (h : New a e μ μ') (hy : isO μ y) : isO μ' y := by
  obtain ⟨ci2, fs2, t2, r, h1, h2, h3⟩ := hy
  exact ⟨_, _, _, r, h.oth h1, h2, h3⟩
theorem New.put {μ μ1 μ2 : Mem} {a : Nat} {e e' : va_E × Nat} (h : New a e μ μ1) (h2 : Put a e e' μ1 μ2) : New a e' μ μ2 := ⟨h.1, h2.2.1, fun b hb => (h2.2.2 b hb).trans (h.2.2 b hb)⟩
theorem lw4 {a b c d : Cond} (h1 : a ∈ lw_all) (h2 : b ∈ lw_all) (h3 : c ∈ lw_all) (h4 : d ∈ lw_all) : ∀ w ∈ [a, b, c, d], w ∈ lw_all := List.forall_mem_cons.mpr ⟨h1, List.forall_mem_cons.mpr ⟨h2, List.forall_mem_cons.mpr ⟨h3, List.forall_mem_cons.mpr ⟨h4, fun _ h => absurd h List.not_mem_nil⟩⟩⟩⟩
theorem lw5 {a b c d e : Cond} (h1 : a ∈ lw_all) (h2 : b ∈ lw_all) (h3 : c ∈ lw_all) (h4 : d ∈ lw_all) (h5 : e ∈ lw_all) : ∀ w ∈ [a, b, c, d, e], w ∈ lw_all := List.forall_mem_cons.mpr ⟨h1, lw4 h2 h3 h4 h5⟩
/-! numbers -/
theorem nI_max {a b : Nat} (ha : a < 2 ^ 31) (hb : b < 2 ^ 31) : (if nI a < nI b then nI b else nI a) = nI (Nat.max a b) := by
  by_cases c : a < b
  · rw [if_pos (nI_lt c hb), show Nat.max a b = b from Nat.max_eq_right (Nat.le_of_lt c)]
  · rw [if_neg (nI_nlt (Nat.le_of_not_lt c) ha), show Nat.max a b = a from Nat.max_eq_left (Nat.le_of_not_lt c)]
theorem nI_min {a b : Nat} (ha : a < 2 ^ 31) (hb : b < 2 ^ 31) : (if nI b < nI a then nI b else nI a) = nI (Nat.min a b) := by
  by_cases c : b < a
  · rw [if_pos (nI_lt c ha), show Nat.min a b = b from Nat.min_eq_right (Nat.le_of_lt c)]
  · rw [if_neg (nI_nlt (Nat.le_of_not_lt c) hb), show Nat.min a b = a from Nat.min_eq_left (Nat.le_of_not_lt c)]
theorem nI_sub {a b : Nat} (h : b ≤ a) (ha : a < 2 ^ 31) : nI a - nI b = nI (a - b) := by
  have h1 := nI_toInt ha
  have h2 := nI_toInt (n := b) (by omega)
  have h3 := nI_toInt (n := a - b) (by omega)
  rw [i_eq, i_sub, h1, h2, h3] <;> omega
theorem nI_sub1 {a : Nat} (h : 1 ≤ a) (ha : a < 2 ^ 31) : nI a - 1 = nI (a - 1) := nI_sub h ha
theorem nI_halfs : ∀ a : Fin 1001, nI a.val >>> ((1 : Int32) &&& 31) = nI (a.val / 2) := by decide +kernel
theorem nI_half {a : Nat} (ha : a ≤ 1000) : nI a >>> ((1 : Int32) &&& 31) = nI (a / 2) := nI_halfs ⟨a, by omega⟩
theorem nI_dbl {a : Nat} (ha : a < 2 ^ 30) : nI a <<< ((1 : Int32) &&& 31) = nI (2 * a) := by
  have e : ((1 : Int32) &&& 31) = 1 := by decide
  rw [e]
  have h2 : nI a <<< (1 : Int32) = nI a + nI a := by
    have : ∀ x : Int32, x <<< (1 : Int32) = x + x := fun x => by
      apply Int32.toBitVec_inj.mp
      apply BitVec.eq_of_toNat_eq
      simp [Nat.shiftLeft_eq]
      omega
    exact this _
  rw [h2, nI_add, show a + a = 2 * a by omega]
