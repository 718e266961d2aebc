/-! MORE ROWS: calls of constructors, of nest mates, through interfaces, of what is inherited; casts, statics, floats -/
set_option maxRecDepth 100000
section VCALL3
variable {X : Cx} {Γ : Gm} {A : Nat → Prop} {cc : ByteArray} {nL : Nat} {own : String} {F MC MS : Nat} {Q : State → Prop} {k n : Nat} {μ : Mem} {pc : Nat} {lv : List (Nat × Value)} {st rest : List Value}
variable {y : MethodName} {bytes : ByteArray} {maxL : Nat} {ret : Option FieldType} {f mc ms nA : Nat} {As : List Value} {b : Nat} {Po : Option Value → Mem → Prop} {idx : Nat}
theorem v_fin (O : Ok X Γ A cc nL own F MC MS) {H : Heap} {locs : List Loc} {ls : Array Slot} (hG : gG Γ.1 vwAll μ H) (hS : va_S A (xS X).heap H locs) (hMm : ∀ a, μ a ≠ none → A a) (hl : lv_has ls nL lv) {T : State} (hT : T.heap = H) (X0 : Stand (xP X) (xL X) (xE X) (xR X) (xS X) (xM X) (xA X) (xB X) (xT X) (xC X) T locs k n) {aa : Array Value}
    (hr : va_Run (xP X) (xL X) (xE X) (xR X) (xS X) (xM X) (xA X) (xB X) (xT X) (xC X) H locs k n mc ms (F0 (xM X) pc ls st) rest (PostG Γ μ H.size Po aa) (gA μ H.size))
    (kk : ∀ v μ', Po v μ' → V X Γ A nL Q (k + mc) (n + ms) μ' (pc + 3) lv (v.toList ++ rest)) : ∃ t, Steps (xP X).tables (xE X) (xB X) (T.setTop (F0 (xM X) pc ls st)) t ∧ Q t := by
  obtain ⟨v, st₀, t, T', L, h0, X', hL, e1, e2, hq, st2⟩ := hr T hT X0
  obtain ⟨t2, a1, b1⟩ := v_back (g2 := fun v => F0 (xM X) (pc + 3) ls (v.toList ++ rest)) (d := 3) (T := T) O hG hS hMm hl (fun _ _ h => h) (fun v => rfl) h0 X' hL e1 hq (fun v μ' h => by rw [mjoin_self]; exact kk v μ' h)
  exact ⟨t2, st2 t2 a1, b1⟩
/-- a constructor -/
theorem v_callI (O : Ok X Γ A cc nL own F MC MS) (hM : MetV (xL X) Γ y bytes maxL none f mc ms (.ref b :: As) μ Po) (h1 : Cond.methodLink own idx y ∈ lw_all) (h2 : Cond.instanceMethod y ∈ lw_all) (h4 : Cond.initialized y.cls ∈ lw_all) (h5 : Cond.code y bytes maxL none ∈ lw_all) (hy1 : y.name = "<init>") (hd0 : y.cls ≠ "java/lang/invoke/MethodHandle" ∧ y.cls ≠ "java/lang/invoke/VarHandle" ∧ (parseMethodDescriptor y.desc).map (fun d => d.parameters.length) = some nA) (hA : As.length = nA) (hf : Nat.blt f F = true) (hm : Nat.ble maxL 45 = true) (hst : st = As.reverse ++ .ref b :: rest) (hcat : (rest.map fun v => v.category).sum ≤ 8) (hk : k + mc ≤ MC) (hn : n + ms ≤ MS) (hd : decode cc pc = .ok (.invokespecial idx, 3))
    (kk : ∀ v μ', Po v μ' → V X Γ A nL Q (k + mc) (n + ms) μ' (pc + 3) lv (v.toList ++ rest)) : V X Γ A nL Q k n μ pc lv st := by
  intro H locs ls hG hS hMm hl T hT X0
  have hpre := v_preS (As := .ref b :: As) O hG hS hMm (fun _ _ h => h)
  subst hst
  exact v_fin O hG hS hMm hl hT X0 (va_runI (g := F0 (xM X) pc ls (As.reverse ++ .ref b :: rest)) (rest := rest) ⟨O.hx, O.hb, O.hml, O.hown, O.hts⟩ (hM H.size) (cwI nA O.hts (lw_meth h5) rfl rfl rfl (O.hts _ h4) (O.hts _ h1) (O.hts _ h2) hy1 hd0 (hRof O hf hm)) hpre rfl hA hl.1 rfl (lv_room hcat) hd ⟨Nat.le_trans hk O.hR.2.2.1, Nat.le_trans hn O.hR.2.2.2⟩) kk
/-- a constructor of a nest mate -/
theorem v_callIN (O : Ok X Γ A cc nL own F MC MS) {host : String} (hM : MetV (xL X) Γ y bytes maxL none f mc ms (.ref b :: As) μ Po) (h1 : Cond.methodLinkNest own idx y host ∈ lw_tbl) (h2 : Cond.instanceMethod y ∈ lw_all) (h4 : Cond.initialized y.cls ∈ lw_all) (h5 : Cond.code y bytes maxL none ∈ lw_all) (hy1 : y.name = "<init>") (hd0 : y.cls ≠ "java/lang/invoke/MethodHandle" ∧ y.cls ≠ "java/lang/invoke/VarHandle" ∧ (parseMethodDescriptor y.desc).map (fun d => d.parameters.length) = some nA) (hA : As.length = nA) (hf : Nat.blt f F = true) (hm : Nat.ble maxL 45 = true) (hst : st = As.reverse ++ .ref b :: rest) (hcat : (rest.map fun v => v.category).sum ≤ 8) (hk : k + mc ≤ MC) (hn : n + ms ≤ MS) (hd : decode cc pc = .ok (.invokespecial idx, 3))
    (kk : ∀ v μ', Po v μ' → V X Γ A nL Q (k + mc) (n + ms) μ' (pc + 3) lv (v.toList ++ rest)) : V X Γ A nL Q k n μ pc lv st := by
  intro H locs ls hG hS hMm hl T hT X0
  have hpre := v_preS (As := .ref b :: As) O hG hS hMm (fun _ _ h => h)
  subst hst
  exact v_fin O hG hS hMm hl hT X0 (va_runIN (g := F0 (xM X) pc ls (As.reverse ++ .ref b :: rest)) (rest := rest) ⟨O.hx, O.hb, O.hml, O.hown, O.hts⟩ (hM H.size) ⟨va_cnB nA O.hts (lw_meth h5) rfl rfl rfl (O.nw h1 rfl) (O.hts _ h4) hd0 (hRof O hf hm), hy1, O.hts _ h2⟩ hpre rfl hA hl.1 rfl (lv_room hcat) hd ⟨Nat.le_trans hk O.hR.2.2.1, Nat.le_trans hn O.hR.2.2.2⟩) kk
/-- a private method of a nest mate -/
theorem v_callVN (O : Ok X Γ A cc nL own F MC MS) {host : String} (hM : MetV (xL X) Γ y bytes maxL ret f mc ms (.ref b :: As) μ Po) {ci tg : Nat} {fs : List Value} {C : String} {TT : u_T} {NN : Nat} (hr : μ b = some (.inr (ci, fs), tg)) (hci : vwAll[ci]? = some (C, TT, NN)) (h1 : Cond.methodLinkNest own idx y host ∈ lw_tbl) (h2 : Cond.instanceMethod y ∈ lw_all) (h3 : Cond.selects C y y ∈ lw_all) (h4 : Cond.initialized y.cls ∈ lw_all) (h5 : Cond.code y bytes maxL ret ∈ lw_all) (hd0 : y.cls ≠ "java/lang/invoke/MethodHandle" ∧ y.cls ≠ "java/lang/invoke/VarHandle" ∧ (parseMethodDescriptor y.desc).map (fun d => d.parameters.length) = some nA) (hA : As.length = nA) (hf : Nat.blt f F = true) (hm : Nat.ble maxL 45 = true) (hst : st = As.reverse ++ .ref b :: rest) (hcat : (rest.map fun v => v.category).sum ≤ 8) (hk : k + mc ≤ MC) (hn : n + ms ≤ MS) (hd : decode cc pc = .ok (.invokevirtual idx, 3))
    (kk : ∀ v μ', Po v μ' → V X Γ A nL Q (k + mc) (n + ms) μ' (pc + 3) lv (v.toList ++ rest)) : V X Γ A nL Q k n μ pc lv st := by
  intro H locs ls hG hS hMm hl T hT X0
  obtain ⟨q0, he⟩ := wl_at (n := H.size) (hG.lt hr) hr
  have hpre := v_preS (As := .ref b :: As) O hG hS hMm (fun _ _ h => h)
  subst hst
  exact v_fin O hG hS hMm hl hT X0 (va_runVN (g := F0 (xM X) pc ls (As.reverse ++ .ref b :: rest)) (rest := rest) ⟨O.hx, O.hb, O.hml, O.hown, O.hts⟩ (hM H.size) ⟨va_cnB nA O.hts (lw_meth h5) rfl rfl rfl (O.nw h1 rfl) (O.hts _ h4) hd0 (hRof O hf hm), O.hts _ h2, O.hts _ h3⟩ ⟨hpre.1, va_recv O.KK.1 (hG.P _) hci he, hpre.2⟩ rfl hA hl.1 rfl (lv_room hcat) hd ⟨Nat.le_trans hk O.hR.2.2.1, Nat.le_trans hn O.hR.2.2.2⟩) kk
/-- what is inherited, or overridden: x is named, y runs; owner: where x stands -/
theorem v_callU (O : Ok X Γ A cc nL own F MC MS) {x : MethodName} {owner : String} (hM : MetV (xL X) Γ y bytes maxL ret f mc ms (.ref b :: As) μ Po) {ci tg : Nat} {fs : List Value} {C : String} {TT : u_T} {NN : Nat} (hr : μ b = some (.inr (ci, fs), tg)) (hci : vwAll[ci]? = some (C, TT, NN)) (h1 : ∀ w ∈ ([.methodLink own idx x, .sameMethod x.cls owner x.name x.desc, .selects C x y, .instanceMethod y, .initialized y.cls] : List Cond), w ∈ lw_all) (h5 : Cond.code y bytes maxL ret ∈ lw_all) (hdc : y = ⟨owner, x.name, x.desc⟩ ∨ Cond.declares ⟨owner, x.name, x.desc⟩ ∈ lw_tbl) (hd0 : owner ≠ "java/lang/invoke/MethodHandle" ∧ owner ≠ "java/lang/invoke/VarHandle" ∧ (parseMethodDescriptor x.desc).map (fun d => d.parameters.length) = some nA) (hA : As.length = nA) (hf : Nat.blt f F = true) (hm : Nat.ble maxL 45 = true) (hst : st = As.reverse ++ .ref b :: rest) (hcat : (rest.map fun v => v.category).sum ≤ 8) (hk : k + mc ≤ MC) (hn : n + ms ≤ MS) (hd : decode cc pc = .ok (.invokevirtual idx, 3))
    (kk : ∀ v μ', Po v μ' → V X Γ A nL Q (k + mc) (n + ms) μ' (pc + 3) lv (v.toList ++ rest)) : V X Γ A nL Q k n μ pc lv st := by
  intro H locs ls hG hS hMm hl T hT X0
  obtain ⟨q0, he⟩ := wl_at (n := H.size) (hG.lt hr) hr
  have hpre := v_preS (As := .ref b :: As) O hG hS hMm (fun _ _ h => h)
  have hgood : GoodIn lw_all (va_wsU own idx C owner x y (ws_ y bytes maxL ret)) := lw_app h1 (lw_meth h5)
  have cw : va_CU (xR X) (xS X) (xA X) own C owner idx x y bytes maxL ret (ws_ y bytes maxL ret) { frames := f, cells := mc, slots := ms, locals := 64 * f } mc ms nA := by
    rcases hdc with e | e
    · exact va_cwU nA O.hts hgood rfl rfl rfl e hd0 (hRof O hf hm)
    · exact va_cwA nA O.hts hgood rfl rfl rfl (O.nw e rfl) hd0 (hRof O hf hm)
  subst hst
  exact v_fin O hG hS hMm hl hT X0 (va_runU (g := F0 (xM X) pc ls (As.reverse ++ .ref b :: rest)) (rest := rest) ⟨O.hx, O.hb, O.hml, O.hown, O.hts⟩ (hM H.size) cw ⟨hpre.1, va_recv O.KK.1 (hG.P _) hci he, hpre.2⟩ rfl hA hl.1 rfl (lv_room hcat) hd ⟨Nat.le_trans hk O.hR.2.2.1, Nat.le_trans hn O.hR.2.2.2⟩) kk
/-- through an interface -/
theorem v_callF (O : Ok X Γ A cc nL own F MC MS) {x : MethodName} (hM : MetV (xL X) Γ y bytes maxL ret f mc ms (.ref b :: As) μ Po) {ci tg cnt : Nat} {fs : List Value} {C : String} {TT : u_T} {NN : Nat} (hr : μ b = some (.inr (ci, fs), tg)) (hci : vwAll[ci]? = some (C, TT, NN)) (hF : (C, x, y) ∈ fwAll) (h1 : ∀ w ∈ ([.methodLink own idx x, .selects C x y, .instanceMethod y, .initialized y.cls] : List Cond), w ∈ lw_all) (h5 : Cond.code y bytes maxL ret ∈ lw_all) (hd0 : x.cls ≠ "java/lang/invoke/MethodHandle" ∧ x.cls ≠ "java/lang/invoke/VarHandle" ∧ (parseMethodDescriptor x.desc).map (fun d => d.parameters.length) = some nA) (hA : As.length = nA) (hf : Nat.blt f F = true) (hm : Nat.ble maxL 45 = true) (hst : st = As.reverse ++ .ref b :: rest) (hcat : (rest.map fun v => v.category).sum ≤ 8) (hk : k + mc ≤ MC) (hn : n + ms ≤ MS) (hd : decode cc pc = .ok (.invokeinterface idx cnt, 5))
    (kk : ∀ v μ', Po v μ' → V X Γ A nL Q (k + mc) (n + ms) μ' (pc + 5) lv (v.toList ++ rest)) : V X Γ A nL Q k n μ pc lv st := by
  intro H locs ls hG hS hMm hl T hT X0
  obtain ⟨q0, he⟩ := wl_at (n := H.size) (hG.lt hr) hr
  have hpre := v_preS (As := .ref b :: As) O hG hS hMm (fun _ _ h => h)
  have hgood : GoodIn lw_all (va_wsF own idx C x y (ws_ y bytes maxL ret)) := lw_app h1 (lw_meth h5)
  subst hst
  obtain ⟨v, st₀, t, T', L, h0, X', hL, e1, e2, hq, st2⟩ := va_runF (g := F0 (xM X) pc ls (As.reverse ++ .ref b :: rest)) (rest := rest) (O.KK.1.1 ci _ hci).2 ⟨O.hx, O.hb, O.hml, O.hown, O.hts⟩ (hM H.size) (va_cwF nA O.hts hgood rfl rfl rfl (O.KK.2.1.2.1 _ hF) hd0 (hRof O hf hm)) ⟨hpre.1, va_recv O.KK.1 (hG.P _) hci he, hpre.2⟩ rfl hA hl.1 rfl (lv_room hcat) hd ⟨Nat.le_trans hk O.hR.2.2.1, Nat.le_trans hn O.hR.2.2.2⟩ T hT X0
  obtain ⟨t2, a1, b1⟩ := v_back (g2 := fun v => F0 (xM X) (pc + 5) ls (v.toList ++ rest)) (d := 5) (T := T) O hG hS hMm hl (fun _ _ h => h) (fun v => rfl) h0 X' hL e1 hq (fun v μ' h => by rw [mjoin_self]; exact kk v μ' h)
  exact ⟨t2, st2 t2 a1, b1⟩
end VCALL3
section VROW3
variable {X : Cx} {Γ : Gm} {A : Nat → Prop} {cc : ByteArray} {nL : Nat} {own : String} {F MC MS : Nat} {Q : State → Prop} {k n : Nat} {μ : Mem} {pc : Nat} {lv lv' : List (Nat × Value)} {st : List Value} {idx a : Nat}
theorem v_cast (O : Ok X Γ A cc nL own F MC MS) {ci tg : Nat} {fs : List Value} {C nm : String} {TT : u_T} {NN : Nat} (hr : μ a = some (.inr (ci, fs), tg)) (hci : vwAll[ci]? = some (C, TT, NN)) (hl : Cond.classLink own idx nm ∈ lw_all) (hc : Cond.castable C nm ∈ lw_tbl) (hd : decode cc pc = .ok (.checkcast idx, 3)) (kk : V X Γ A nL Q k n μ (pc + 3) lv (.ref a :: st)) : V X Γ A nL Q k n μ pc lv (.ref a :: st) := fun H locs ls hG hS hM hlv => by
  obtain ⟨q0, he⟩ := wl_at (n := H.size) (hG.lt hr) hr
  exact va_castY O.hx O.hb O.hown (O.hts _ hl) (O.nw hc rfl) (va_recv O.KK.1 (hG.P _) hci he) hd (kk H locs ls hG hS hM hlv)
theorem v_inst (O : Ok X Γ A cc nL own F MC MS) {ci tg : Nat} {fs : List Value} {C nm : String} {TT : u_T} {NN : Nat} (hr : μ a = some (.inr (ci, fs), tg)) (hci : vwAll[ci]? = some (C, TT, NN)) (hl : Cond.classLink own idx nm ∈ lw_all) (hc : Cond.castable C nm ∈ lw_tbl) (hd : decode cc pc = .ok (.instanceof idx, 3)) (kk : V X Γ A nL Q k n μ (pc + 3) lv (.int 1 :: st)) : V X Γ A nL Q k n μ pc lv (.ref a :: st) := fun H locs ls hG hS hM hlv => by
  obtain ⟨q0, he⟩ := wl_at (n := H.size) (hG.lt hr) hr
  exact va_instY O.hx O.hb O.hown (O.hts _ hl) (O.nw hc rfl) (va_recv O.KK.1 (hG.P _) hci he) hd (kk H locs ls hG hS hM hlv)
theorem v_mmax (O : Ok X Γ A cc nL own F MC MS) {x y z : Int32} (h1 : Cond.methodLink own idx Lib.Math.max.name ∈ lw_all) (h2 : Cond.static Lib.Math.max.name ∈ lw_all) (h3 : Cond.initialized "java/lang/Math" ∈ lw_all) (h4 : Cond.code Lib.Math.max.name Lib.Math.max.code 2 (some .int) ∈ lw_all) (hF : Nat.blt 0 F = true) (hst : (st.map fun v => v.category).sum ≤ 8) (hk : k ≤ MC) (hn : n ≤ MS) (hz : (if x < y then y else x) = z) (hd : decode cc pc = .ok (.invokestatic idx, 3)) (kk : V X Γ A nL Q k n μ (pc + 3) lv (.int z :: st)) : V X Γ A nL Q k n μ pc lv (.int y :: .int x :: st) := fun H locs ls hG hS hM hlv => by
  have hF : 1 ≤ F := Nat.le_of_ble_eq_true hF
  have g1 := O.hR.1
  have g2 := O.hR.2.1
  subst hz
  exact va_mmax O.hx O.hb (O.hml.trans hlv.1.symm) O.hown (O.hts _ h1) (O.hts _ h2) (O.hts _ h3) (O.hts _ h4) (by omega) (by omega) (Nat.le_trans hk O.hR.2.2.1) (Nat.le_trans hn O.hR.2.2.2) hd (kk H locs ls hG hS hM hlv)
theorem v_mmin (O : Ok X Γ A cc nL own F MC MS) {x y z : Int32} (h1 : Cond.methodLink own idx Lib.Math.min.name ∈ lw_all) (h2 : Cond.static Lib.Math.min.name ∈ lw_all) (h3 : Cond.initialized "java/lang/Math" ∈ lw_all) (h4 : Cond.code Lib.Math.min.name Lib.Math.min.code 2 (some .int) ∈ lw_all) (hF : Nat.blt 0 F = true) (hst : (st.map fun v => v.category).sum ≤ 8) (hk : k ≤ MC) (hn : n ≤ MS) (hz : (if y < x then y else x) = z) (hd : decode cc pc = .ok (.invokestatic idx, 3)) (kk : V X Γ A nL Q k n μ (pc + 3) lv (.int z :: st)) : V X Γ A nL Q k n μ pc lv (.int y :: .int x :: st) := fun H locs ls hG hS hM hlv => by
  have hF : 1 ≤ F := Nat.le_of_ble_eq_true hF
  have g1 := O.hR.1
  have g2 := O.hR.2.1
  subst hz
  exact va_mmin O.hx O.hb (O.hml.trans hlv.1.symm) O.hown (O.hts _ h1) (O.hts _ h2) (O.hts _ h3) (O.hts _ h4) (by omega) (by omega) (Nat.le_trans hk O.hR.2.2.1) (Nat.le_trans hn O.hR.2.2.2) hd (kk H locs ls hG hS hM hlv)
theorem v_acmp_eq (O : Ok X Γ A cc nL own F MC MS) {rx ry : Option Nat} {off : Int} {tgt : Nat} (hd : decode cc pc = .ok (.if_acmp .eq off, 3)) (ht : (pc : Int) + off = (tgt : Int)) (kt : rx = ry → V X Γ A nL Q k n μ tgt lv st) (kf : ¬ rx = ry → V X Γ A nL Q k n μ (pc + 3) lv st) : V X Γ A nL Q k n μ pc lv (va_rf ry :: va_rf rx :: st) := fun H locs ls hG hS hM hl => lv_acmp_eq O.1 O.2.1 hd ht (fun z => kt z H locs ls hG hS hM hl) (fun z => kf z H locs ls hG hS hM hl)
theorem v_acmp_ne (O : Ok X Γ A cc nL own F MC MS) {rx ry : Option Nat} {off : Int} {tgt : Nat} (hd : decode cc pc = .ok (.if_acmp .ne off, 3)) (ht : (pc : Int) + off = (tgt : Int)) (kt : ¬ rx = ry → V X Γ A nL Q k n μ tgt lv st) (kf : rx = ry → V X Γ A nL Q k n μ (pc + 3) lv st) : V X Γ A nL Q k n μ pc lv (va_rf ry :: va_rf rx :: st) := fun H locs ls hG hS hM hl => lv_acmp_ne O.1 O.2.1 hd ht (fun z => kt z H locs ls hG hS hM hl) (fun z => kf z H locs ls hG hS hM hl)
end VROW3
