/-! MEMORIES CHANGED: Put, New (one cell), Upd c (only what bears the tag c); rows that hand on what changed -/
set_option maxRecDepth 100000
def Put (a : Nat) (e e' : va_E × Nat) (μ μ' : Mem) : Prop := μ a = some e ∧ μ' a = some e' ∧ ∀ b, b ≠ a → μ' b = μ b
def New (a : Nat) (e : va_E × Nat) (μ μ' : Mem) : Prop := μ a = none ∧ μ' a = some e ∧ ∀ b, b ≠ a → μ' b = μ b
def Upd (c : Nat) (μ μ' : Mem) : Prop := ∀ q e, e.2 ≠ c → (μ q = some e ↔ μ' q = some e)
theorem Put.of {μ : Mem} {a : Nat} {e e' : va_E × Nat} (h : μ a = some e) : Put a e e' μ (mup μ a e') := ⟨h, mup_self _ _ _, fun _ hb => mup_ne hb⟩
theorem New.of {μ : Mem} {a : Nat} {e : va_E × Nat} (h : μ a = none) : New a e μ (mup μ a e) := ⟨h, mup_self _ _ _, fun _ hb => mup_ne hb⟩
theorem Put.oth {μ μ' : Mem} {a b : Nat} {e e' eb : va_E × Nat} (h : Put a e e' μ μ') (hb : μ b = some eb) (hd : eb ≠ e) : μ' b = some eb := by
  rw [h.2.2 b ?_]
  · exact hb
  · intro z
    subst z
    rw [h.1] at hb
    exact hd (Option.some.inj hb).symm
theorem New.oth {μ μ' : Mem} {a b : Nat} {e eb : va_E × Nat} (h : New a e μ μ') (hb : μ b = some eb) : μ' b = some eb := by
  rw [h.2.2 b ?_]
  · exact hb
  · intro z
    subst z
    rw [h.1] at hb
    cases hb
theorem Put.id {μ : Mem} {a : Nat} {e : va_E × Nat} (h : μ a = some e) : Put a e e μ μ := ⟨h, h, fun _ _ => rfl⟩
theorem Upd.rf {c : Nat} {μ : Mem} : Upd c μ μ := fun _ _ _ => Iff.rfl
theorem Upd.trans {c : Nat} {μ μ1 μ2 : Mem} (h1 : Upd c μ μ1) (h2 : Upd c μ1 μ2) : Upd c μ μ2 := fun q e h => (h1 q e h).trans (h2 q e h)
theorem Upd.to {c : Nat} {μ μ' : Mem} (h : Upd c μ μ') {q : Nat} {e : va_E × Nat} (hq : μ q = some e) (he : e.2 ≠ c) : μ' q = some e := (h q e he).mp hq
theorem Upd.back {c : Nat} {μ μ' : Mem} (h : Upd c μ μ') {q : Nat} {e : va_E × Nat} (hq : μ' q = some e) (he : e.2 ≠ c) : μ q = some e := (h q e he).mpr hq
theorem Put.upd {μ μ' : Mem} {a c : Nat} {e e' : va_E × Nat} (h : Put a e e' μ μ') (h1 : e.2 = c) (h2 : e'.2 = c) : Upd c μ μ' := fun q x hx => by
  by_cases z : q = a
  · subst z
    rw [h.1, h.2.1]
    constructor
    · intro w; cases w; exact absurd h1 hx
    · intro w; cases w; exact absurd h2 hx
  · rw [h.2.2 q z]
theorem New.upd {μ μ' : Mem} {a c : Nat} {e : va_E × Nat} (h : New a e μ μ') (h1 : e.2 = c) : Upd c μ μ' := fun q x hx => by
  by_cases z : q = a
  · subst z
    rw [h.1, h.2.1]
    constructor
    · intro w; cases w
    · intro w; cases w; exact absurd h1 hx
  · rw [h.2.2 q z]
/-- only more: what stood stands -/
def Ext (μ μ' : Mem) : Prop := ∀ q e, μ q = some e → μ' q = some e
theorem New.ext {μ μ' : Mem} {a : Nat} {e : va_E × Nat} (h : New a e μ μ') : Ext μ μ' := fun _ _ hq => h.oth hq
/-- an object whose class is known, in the memory -/
def isO (μ : Mem) (y : Nat) : Prop := ∃ (ci : Nat) (fs : List Value) (t : Nat) (r : vw_C), μ y = some (.inr (ci, fs), t) ∧ vwAll[ci]? = some r ∧ Cond.castable r.1 "java/lang/Object" ∈ lw_tbl
section WROW
variable {X : Cx} {Γ : Gm} {A : Nat → Prop} {cc : ByteArray} {nL : Nat} {own : String} {F MC MS : Nat} {Q : State → Prop} {k n : Nat} {μ : Mem} {pc : Nat} {lv lv' : List (Nat × Value)} {st : List Value} {idx a t ci : Nat} {fs : List Value} {C ref : String} {T : u_T} {N : Nat} {ty : Nat → FieldType}
theorem w_put (O : Ok X Γ A cc nL own F MC MS) (hc : CI ci C T N ty) (hμ : μ a = some (.inr (ci, fs), t)) (j : Nat) (hj : Nat.blt j N = true) (hq : Cond.fieldLink own idx ref (T j).2.1 (T j).2.2.1 ∈ lw_all) (hs : ∀ x, (xS X).fieldFound? (T j).1 (T j).2.1 (T j).2.2.1 = some x → (xS X).fieldFound? ref (T j).2.1 (T j).2.2.1 = some x) (hf : (T j).2.2.2 = false) {v : Value} (hn : narrow (ty j) v = v) (hfit : fits (ty j) v = true) (hlen : Nat.blt j fs.length = true) (hd : decode cc pc = .ok (.putfield idx, 3)) (kk : ∀ μ', Put a (.inr (ci, fs), t) (.inr (ci, fs.set j v), t) μ μ' → V X Γ A nL Q k n μ' (pc + 3) lv st) : V X Γ A nL Q k n μ pc lv (v :: .ref a :: st) :=
  v_put O hc hμ j hj hq hs hf hn hfit (Nat.le_of_ble_eq_true hlen) hd (kk _ (Put.of hμ))
theorem w_putN (O : Ok X Γ A cc nL own F MC MS) (hc : CI ci C T N ty) {host : String} (hμ : μ a = some (.inr (ci, fs), t)) (j : Nat) (hj : Nat.blt j N = true) (hq : Cond.fieldLinkNest own idx ref (T j).2.1 (T j).2.2.1 host ∈ lw_tbl) (hs : ∀ x, (xS X).fieldFound? (T j).1 (T j).2.1 (T j).2.2.1 = some x → (xS X).fieldFound? ref (T j).2.1 (T j).2.2.1 = some x) (hf : (T j).2.2.2 = false) {v : Value} (hn : narrow (ty j) v = v) (hfit : fits (ty j) v = true) (hlen : Nat.blt j fs.length = true) (hd : decode cc pc = .ok (.putfield idx, 3)) (kk : ∀ μ', Put a (.inr (ci, fs), t) (.inr (ci, fs.set j v), t) μ μ' → V X Γ A nL Q k n μ' (pc + 3) lv st) : V X Γ A nL Q k n μ pc lv (v :: .ref a :: st) :=
  v_putN O hc hμ j hj hq hs hf hn hfit (Nat.le_of_ble_eq_true hlen) hd (kk _ (Put.of hμ))
theorem w_putF (O : Ok X Γ A cc nL own F MC MS) (hin : (xT X).name = "<init>") (hc : CI ci C T N ty) (hμ : μ a = some (.inr (ci, fs), t)) (j : Nat) (hj : Nat.blt j N = true) (hq : Cond.fieldLink own idx ref (T j).2.1 (T j).2.2.1 ∈ lw_all) (hs : ∀ x, (xS X).fieldFound? (T j).1 (T j).2.1 (T j).2.2.1 = some x → (xS X).fieldFound? ref (T j).2.1 (T j).2.2.1 = some x) (hf : (T j).2.2.2 = true) (hdc : (T j).1 = own) {v : Value} (hn : narrow (ty j) v = v) (hfit : fits (ty j) v = true) (hlen : Nat.blt j fs.length = true) (hd : decode cc pc = .ok (.putfield idx, 3)) (kk : ∀ μ', Put a (.inr (ci, fs), t) (.inr (ci, fs.set j v), t) μ μ' → V X Γ A nL Q k n μ' (pc + 3) lv st) : V X Γ A nL Q k n μ pc lv (v :: .ref a :: st) :=
  v_putF O hin hc hμ j hj hq hs hf hdc hn hfit (Nat.le_of_ble_eq_true hlen) hd (kk _ (Put.of hμ))
theorem w_new (O : Ok X Γ A cc nL own F MC MS) (tag : Nat) (fs : List Value) (hc : CI ci C T N ty) (hcl : Cond.classLink own idx C ∈ lw_all) (hin : Cond.instantiable C N ∈ lw_all) (hini : Cond.initialized C ∈ lw_all) (hfs : ∀ j, j < N → defaultValue (ty j) = vp_V fs j) (hk : k + 1 ≤ MC) (hn : n + N ≤ MS) (hd : decode cc pc = .ok (.new idx, 3)) (kk : ∀ q μ', New q (.inr (ci, fs), tag) μ μ' → V X Γ A nL Q (k + 1) (n + N) μ' (pc + 3) lv (.ref q :: st)) : V X Γ A nL Q k n μ pc lv st :=
  v_new O tag fs hc hcl hin hini hfs hk hn hd (fun q hq => kk q _ (New.of hq))
theorem w_newq (O : Ok X Γ A cc nL own F MC MS) (tag ti : Nat) {E : String} (hE : (tysAll Γ)[ti]? = some (Γ.2.1 ti, .object E)) (hcl : Cond.classLink own idx E ∈ lw_all) (hov : E ∈ aoAll) {z : Int32} (N : Nat) (hz : ¬ z < 0) (hN : z.toNatClampNeg = N) (hbytes : N * 4 ≤ 536870912) (hk : k + 1 ≤ MC) (hn : n + N ≤ MS) (hd : decode cc pc = .ok (.anewarray idx, 3)) (kk : ∀ q μ', New q (.inl (Γ.2.1 ti, N, .inr (.inr (.inr (.inr (fun _ => none))))), tag) μ μ' → V X Γ A nL Q (k + 1) (n + N) μ' (pc + 3) lv (.ref q :: st)) : V X Γ A nL Q k n μ pc lv (.int z :: st) :=
  v_newq O tag ti hE hcl hov N hz hN hbytes hk hn hd (fun q hq => kk q _ (New.of hq))
theorem w_astq (O : Ok X Γ A cc nL own F MC MS) {N : Nat} {f : Nat → Option Nat} {i : Int32} {v : Nat} (hμ : μ a = some (.inl (Γ.2.1 3, N, .inr (.inr (.inr (.inr f)))), t)) (hv : isO μ v) (hi : vp_in i N) (hd : decode cc pc = .ok (.aastore, 1)) (kk : ∀ μ', Put a (.inl (Γ.2.1 3, N, .inr (.inr (.inr (.inr f)))), t) (.inl (Γ.2.1 3, N, .inr (.inr (.inr (.inr (va_up f i.toNatClampNeg (some v)))))), t) μ μ' → V X Γ A nL Q k n μ' (pc + 1) lv st) : V X Γ A nL Q k n μ pc lv (.ref v :: .int i :: .ref a :: st) := by
  obtain ⟨ci, fs, tv, r, h1, h2, h3⟩ := hv
  exact v_astq O 3 rfl hμ h1 h2 (vb_asgC (O.nw h3 rfl)) hi hd (kk _ (Put.of hμ))
theorem w_astN (O : Ok X Γ A cc nL own F MC MS) (ti : Nat) {E : String} (hE : (tysAll Γ)[ti]? = some (Γ.2.1 ti, .object E)) {N : Nat} {f : Nat → Option Nat} {i : Int32} (hμ : μ a = some (.inl (Γ.2.1 ti, N, .inr (.inr (.inr (.inr f)))), t)) (hi : vp_in i N) (hd : decode cc pc = .ok (.aastore, 1)) (kk : ∀ μ', Put a (.inl (Γ.2.1 ti, N, .inr (.inr (.inr (.inr f)))), t) (.inl (Γ.2.1 ti, N, .inr (.inr (.inr (.inr (va_up f i.toNatClampNeg none))))), t) μ μ' → V X Γ A nL Q k n μ' (pc + 1) lv st) : V X Γ A nL Q k n μ pc lv (.null :: .int i :: .ref a :: st) :=
  v_astN O ti hE hμ hi hd (kk _ (Put.of hμ))
/-- the list's static empty array -/
theorem w_getE (O : Ok X Γ A cc nL own F MC MS) (hq : Cond.fieldLink own idx "java/util/ArrayList" "DEFAULTCAPACITY_EMPTY_ELEMENTDATA" "[Ljava/lang/Object;" ∈ lw_all) (hd : decode cc pc = .ok (.getstatic idx, 3)) (kk : V X Γ A nL Q k n μ (pc + 3) lv (.ref (Γ.2.2 257) :: st)) : V X Γ A nL Q k n μ pc lv st := fun H locs ls hG hS hM hl =>
  va_gets O.hx O.hb O.KK.2.2.2.2.2.2.2.1 hS O.hown (O.hts _ hq) (fun _ h => h) hd (kk H locs ls hG hS hM hl)
theorem w_lenE (O : Ok X Γ A cc nL own F MC MS) (hd : decode cc pc = .ok (.arraylength, 1)) (kk : V X Γ A nL Q k n μ (pc + 1) lv (.int 0 :: st)) : V X Γ A nL Q k n μ pc lv (.ref (Γ.2.2 257) :: st) := fun H locs ls hG hS hM hl =>
  va_tlen O.hx O.hb O.KK.2.2.2.2.2.2.2.2.1 hS (v := 0) rfl hd (kk H locs ls hG hS hM hl)
theorem w_getC (O : Ok X Γ A cc nL own F MC MS) {ti : Nat} {x : vp_A} (hti : ti = 3) (hμ : μ a = some (.inl (Γ.2.1 ti, x), t)) (h1 : Cond.methodLink own idx ⟨"java/lang/Object", "getClass", "()Ljava/lang/Class;"⟩ ∈ lw_all) (h2 : Cond.declares ⟨"java/lang/Object", "getClass", "()Ljava/lang/Class;"⟩ ∈ lw_tbl) (h3 : Cond.selects "[Ljava/lang/Object;" ⟨"java/lang/Object", "getClass", "()Ljava/lang/Class;"⟩ ⟨"java/lang/Object", "getClass", "()Ljava/lang/Class;"⟩ ∈ lw_all) (h4 : Cond.instanceMethod ⟨"java/lang/Object", "getClass", "()Ljava/lang/Class;"⟩ ∈ lw_all) (h5 : Cond.native ⟨"java/lang/Object", "getClass", "()Ljava/lang/Class;"⟩ ∈ lw_all) (hF : Nat.blt 0 F = true) (hst : (st.map fun v => v.category).sum ≤ 8) (hd : decode cc pc = .ok (.invokevirtual idx, 3)) (kk : V X Γ A nL Q k n μ (pc + 3) lv (.ref (Γ.2.2 258) :: st)) : V X Γ A nL Q k n μ pc lv (.ref a :: st) := fun H locs ls hG hS hM hl => by
  subst hti
  obtain ⟨q0, he⟩ := wl_at (n := H.size) (hG.lt hμ) hμ
  have hF : 1 ≤ F := Nat.le_of_ble_eq_true hF
  have g1 := O.hR.1
  have g2 := O.hR.2.1
  have hc := hG.P H.size q0 _ he
  have hRA : va_RA (xS X) (Γ.2.1 3) (.object "java/lang/Object") := (O.KK.1.2 3 _ rfl).2
  exact va_getC (C := "[Ljava/lang/Object;") O.hx O.hb (O.hml.trans hl.1.symm) O.hown (O.hts _ h1) (O.nw' h2 rfl) (O.hts _ h3) (O.hts _ h4) (O.hts _ h5) O.KK.2.2.1 ⟨_, hc, (by obtain ⟨nn, f | f | f | f | f⟩ := x <;> rfl), (by rw [show (vp_cell (Γ.2.1 3) x).cls = Γ.2.1 3 by obtain ⟨nn, f | f | f | f | f⟩ := x <;> rfl]; obtain ⟨-, -, -, -, -, e4⟩ := hRA; exact e4)⟩ (by omega) (by omega) hd (kk H locs ls hG hS hM hl)
theorem w_ldcC (O : Ok X Γ A cc nL own F MC MS) (h1 : Cond.classLink own idx "[Ljava/lang/Object;" ∈ lw_all) (hd : decode cc pc = .ok (.ldc idx, 2)) (kk : V X Γ A nL Q k n μ (pc + 2) lv (.ref (Γ.2.2 258) :: st)) : V X Γ A nL Q k n μ pc lv st := fun H locs ls hG hS hM hl =>
  va_ldcM O.hx O.hb O.hown (O.hts _ h1) O.KK.2.2.1 hd (kk H locs ls hG hS hM hl)
theorem w_copy (O : Ok X Γ A cc nL own F MC MS) {a0 n0 n1 t0 t1 : Nat} {f g : Nat → Option Nat} (h1 : Cond.methodLink own idx arraycopyName ∈ lw_all) (h2 : Cond.native arraycopyName ∈ lw_all) (h3 : Cond.static arraycopyName ∈ lw_all) (h4 : Cond.initialized "java/lang/System" ∈ lw_all) (ha0 : μ a0 = some (.inl (Γ.2.1 3, n0, .inr (.inr (.inr (.inr f)))), t0)) (ha1 : μ a = some (.inl (Γ.2.1 3, n1, .inr (.inr (.inr (.inr g)))), t1)) {sp dp m : Int32} (h5 : ¬ sp < 0) (h6 : ¬ dp < 0) (h7 : ¬ m < 0) (h8 : sp.toNatClampNeg + m.toNatClampNeg ≤ n0) (h9 : dp.toNatClampNeg + m.toNatClampNeg ≤ n1) (hel : ∀ i : Nat, i < m.toNatClampNeg → ∀ y : Nat, f (sp.toNatClampNeg + i) = some y → isO μ y) (hF : Nat.blt 0 F = true) (hst : (st.map fun v => v.category).sum ≤ 8) (hd : decode cc pc = .ok (.invokestatic idx, 3))
    (kk : ∀ μ', Put a (.inl (Γ.2.1 3, n1, .inr (.inr (.inr (.inr g)))), t1) (.inl (Γ.2.1 3, n1, .inr (.inr (.inr (.inr (va_cpy f g sp.toNatClampNeg dp.toNatClampNeg m.toNatClampNeg))))), t1) μ μ' → V X Γ A nL Q k n μ' (pc + 3) lv st) : V X Γ A nL Q k n μ pc lv (.int m :: .int dp :: .ref a :: .int sp :: .ref a0 :: st) := fun H locs ls hG hS hM hl => by
  obtain ⟨q0, he0⟩ := wl_at (n := H.size) (hG.lt ha0) ha0
  obtain ⟨q1, he1⟩ := wl_at (n := H.size) (hG.lt ha1) ha1
  have hF : 1 ≤ F := Nat.le_of_ble_eq_true hF
  have g1 := O.hR.1
  have g2 := O.hR.2.1
  refine va_copyM (E0 := "java/lang/Object") (E1 := "java/lang/Object") O.hx O.hb (O.hml.trans hl.1.symm) O.hown (O.hts _ h1) (O.hts _ h2) (O.hts _ h3) (O.hts _ h4) O.KK.1 (hG.P H.size) (wl_D hM) hS q0 q1 3 3 he0 he1 rfl rfl h5 h6 h7 h8 h9 (fun i hi y hy => ?_) (by omega) (Nat.le_trans (Nat.add_le_add_left (show nativeFrameWords "java/lang/System" "arraycopy" 5 + 11 ≤ 56 by decide) _) (by omega)) hd (fun H1 locs1 hP1 hD1 hS1 => kk _ (Put.of ha1) H1 locs1 ls (hG.set (Nat.le_refl _) he1 hP1 t1) hS1 (mup_A ha1 hM) hl)
  obtain ⟨ci, fs, tv, r, b1, b2, b3⟩ := hel i hi y hy
  obtain ⟨q2, he2⟩ := wl_at (n := H.size) (hG.lt b1) b1
  exact va_rAny O.KK.1 (hG.P H.size) he2 b2 (vb_asgC (O.nw b3 rfl))
end WROW
