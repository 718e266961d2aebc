/-! rows for values that may be null: va_rf r -/
theorem rf_cat {r : Option Nat} : (va_rf r).category = 1 := by cases r <;> rfl
theorem rf_nar {N : String} (r : Option Nat) : narrow (.object N) (va_rf r) = va_rf r := by cases r <;> rfl
theorem rf_fit {N : String} (r : Option Nat) : fits (.object N) (va_rf r) = true := by cases r <;> rfl
section OPT
variable {X : Cx} {Γ : Gm} {A : Nat → Prop} {cc : ByteArray} {nL : Nat} {own : String} {F MC MS : Nat} {Q : State → Prop} {k n : Nat} {μ : Mem} {pc : Nat} {lv lv' : List (Nat × Value)} {st : List Value} {idx a : Nat}
theorem v_aload_nQ (O : Ok X Γ A cc nL own F MC MS) {j : Fin 4} {r : Option Nat} (hd : decode cc pc = .ok (.aload_n j, 1)) (hv : lget lv j = some (va_rf r)) (kk : V X Γ A nL Q k n μ (pc + 1) lv (va_rf r :: st)) : V X Γ A nL Q k n μ pc lv st := by
  cases r with
  | none => exact v_aload_nN O hd hv kk
  | some x => exact v_aload_n O hd hv kk
theorem v_aloadQ (O : Ok X Γ A cc nL own F MC MS) {j : Nat} {r : Option Nat} (hd : decode cc pc = .ok (.aload j, 2)) (hv : lget lv j = some (va_rf r)) (kk : V X Γ A nL Q k n μ (pc + 2) lv (va_rf r :: st)) : V X Γ A nL Q k n μ pc lv st := by
  cases r with
  | none => exact v_aloadN O hd hv kk
  | some x => exact v_aload O hd hv kk
theorem v_astore_nQ (O : Ok X Γ A cc nL own F MC MS) {j : Fin 4} {r : Option Nat} (hd : decode cc pc = .ok (.astore_n j, 1)) (hn : Nat.blt (j : Nat) nL = true) (hl' : ∀ v : Value, v.category = 1 → ((j : Nat), v) :: lv.filter (fun q => !(q.1 == (j : Nat)) && !(q.1 + 1 == (j : Nat) && q.2.category == 2)) = ((j : Nat), v) :: lv') (kk : V X Γ A nL Q k n μ (pc + 1) (((j : Nat), va_rf r) :: lv') st) : V X Γ A nL Q k n μ pc lv (va_rf r :: st) := by
  cases r with
  | none => exact v_astore_nN O hd hn (hl' _ rfl) kk
  | some x => exact v_astore_n O hd hn (hl' _ rfl) kk
theorem v_astoreQ (O : Ok X Γ A cc nL own F MC MS) {j : Nat} {r : Option Nat} (hd : decode cc pc = .ok (.astore j, 2)) (hn : Nat.blt j nL = true) (hl' : ∀ v : Value, v.category = 1 → (j, v) :: lv.filter (fun q => !(q.1 == j) && !(q.1 + 1 == j && q.2.category == 2)) = (j, v) :: lv') (kk : V X Γ A nL Q k n μ (pc + 2) ((j, va_rf r) :: lv') st) : V X Γ A nL Q k n μ pc lv (va_rf r :: st) := by
  cases r with
  | none => exact v_astoreN O hd hn (hl' _ rfl) kk
  | some x => exact v_astore O hd hn (hl' _ rfl) kk
theorem v_dupQ (O : Ok X Γ A cc nL own F MC MS) {r : Option Nat} (hd : decode cc pc = .ok (.dup, 1)) (kk : V X Γ A nL Q k n μ (pc + 1) lv (va_rf r :: va_rf r :: st)) : V X Γ A nL Q k n μ pc lv (va_rf r :: st) := v_dup O hd rf_cat kk
theorem v_popQ (O : Ok X Γ A cc nL own F MC MS) {r : Option Nat} (hd : decode cc pc = .ok (.pop, 1)) (kk : V X Γ A nL Q k n μ (pc + 1) lv st) : V X Γ A nL Q k n μ pc lv (va_rf r :: st) := v_pop O hd rf_cat kk
theorem v_ifnullQ (O : Ok X Γ A cc nL own F MC MS) {r : Option Nat} {off : Int} {tgt : Nat} (hd : decode cc pc = .ok (.ifnull off, 3)) (ht : (pc : Int) + off = (tgt : Int)) (kt : r = none → V X Γ A nL Q k n μ tgt lv st) (kf : ∀ x, r = some x → V X Γ A nL Q k n μ (pc + 3) lv st) : V X Γ A nL Q k n μ pc lv (va_rf r :: st) := by
  cases r with
  | none => exact v_ifnullN O hd ht (kt rfl)
  | some x => exact v_ifnull O hd (kf x rfl)
theorem v_ifnonnullQ (O : Ok X Γ A cc nL own F MC MS) {r : Option Nat} {off : Int} {tgt : Nat} (hd : decode cc pc = .ok (.ifnonnull off, 3)) (ht : (pc : Int) + off = (tgt : Int)) (kt : ∀ x, r = some x → V X Γ A nL Q k n μ tgt lv st) (kf : r = none → V X Γ A nL Q k n μ (pc + 3) lv st) : V X Γ A nL Q k n μ pc lv (va_rf r :: st) := by
  cases r with
  | none => exact v_ifnonnullN O hd (kf rfl)
  | some x => exact v_ifnonnull O hd ht (kt x rfl)
theorem v_aretQ {μ0 : Mem} {sz mc ms : Nat} {Po : Option Value → Mem → Prop} (O : Ok X Γ (gA μ0 sz) cc nL own F MC MS) {rt : FieldType} (hr : (xT X).sig.returnType = some rt) (hrt : (∃ n, rt = .object n) ∨ ∃ t, rt = .array t) (hk : k ≤ mc) (hn : n ≤ ms) (hd : decode cc pc = .ok (.areturn, 1)) {r : Option Nat} (hp : Po (some (va_rf r)) μ) : V X Γ (gA μ0 sz) nL (QV X Γ μ0 sz Po mc ms) k n μ pc lv [va_rf r] :=
  v_aret O hr hrt hk hn hd (by cases r with
    | none => exact Or.inl rfl
    | some x => exact Or.inr ⟨_, rfl⟩) hp
end OPT
/-! floats -/
section FLT
variable {X : Cx} {Γ : Gm} {A : Nat → Prop} {cc : ByteArray} {nL : Nat} {own : String} {F MC MS : Nat} {Q : State → Prop} {k n : Nat} {μ : Mem} {pc : Nat} {lv lv' : List (Nat × Value)} {st : List Value} {idx : Nat}
theorem v_i2f (O : Ok X Γ A cc nL own F MC MS) {x : Int32} (hd : decode cc pc = .ok (.i2f, 1)) (kk : V X Γ A nL Q k n μ (pc + 1) lv (.float (FP.i2f x) :: st)) : V X Γ A nL Q k n μ pc lv (.int x :: st) := fun H locs ls hG hS hM hl => lv_i2f O.1 O.2.1 hd (kk H locs ls hG hS hM hl)
theorem v_fmul (O : Ok X Γ A cc nL own F MC MS) {x y : UInt32} (hd : decode cc pc = .ok (.fmul, 1)) (hne : vf_n32 (FP.fmul x y)) (kk : V X Γ A nL Q k n μ (pc + 1) lv (.float (FP.fmul x y) :: st)) : V X Γ A nL Q k n μ pc lv (.float y :: .float x :: st) := fun H locs ls hG hS hM hl => lv_fmul O.1 O.2.1 hd hne (kk H locs ls hG hS hM hl)
theorem v_fcmp (O : Ok X Γ A cc nL own F MC MS) {x y : UInt32} {op : CmpOp} (hd : decode cc pc = .ok (.fcmp op, 1))  (kk : V X Γ A nL Q k n μ (pc + 1) lv (.int (Op.cmpValue (FP.fcmp x y) op) :: st)) : V X Γ A nL Q k n μ pc lv (.float y :: .float x :: st) := fun H locs ls hG hS hM hl => lv_fcmp O.1 O.2.1 hd  (kk H locs ls hG hS hM hl)
theorem v_f2i (O : Ok X Γ A cc nL own F MC MS) {x : UInt32} (hd : decode cc pc = .ok (.f2i, 1))  (kk : V X Γ A nL Q k n μ (pc + 1) lv (.int (FP.f2i x) :: st)) : V X Γ A nL Q k n μ pc lv (.float x :: st) := fun H locs ls hG hS hM hl => lv_f2i O.1 O.2.1 hd  (kk H locs ls hG hS hM hl)
theorem v_i2d (O : Ok X Γ A cc nL own F MC MS) {x : Int32} (hd : decode cc pc = .ok (.i2d, 1))  (kk : V X Γ A nL Q k n μ (pc + 1) lv (.double (FP.i2d x) :: st)) : V X Γ A nL Q k n μ pc lv (.int x :: st) := fun H locs ls hG hS hM hl => lv_i2d O.1 O.2.1 hd  (kk H locs ls hG hS hM hl)
theorem v_d2i (O : Ok X Γ A cc nL own F MC MS) {x : UInt64} (hd : decode cc pc = .ok (.d2i, 1))  (kk : V X Γ A nL Q k n μ (pc + 1) lv (.int (FP.d2i x) :: st)) : V X Γ A nL Q k n μ pc lv (.double x :: st) := fun H locs ls hG hS hM hl => lv_d2i O.1 O.2.1 hd  (kk H locs ls hG hS hM hl)
theorem v_f2d (O : Ok X Γ A cc nL own F MC MS) {x : UInt32} (hd : decode cc pc = .ok (.f2d, 1)) (hne : vf_n64 (FP.f2d x)) (kk : V X Γ A nL Q k n μ (pc + 1) lv (.double (FP.f2d x) :: st)) : V X Γ A nL Q k n μ pc lv (.float x :: st) := fun H locs ls hG hS hM hl => lv_f2d O.1 O.2.1 hd hne (kk H locs ls hG hS hM hl)
theorem v_ddiv (O : Ok X Γ A cc nL own F MC MS) {x y : UInt64} (hd : decode cc pc = .ok (.ddiv, 1)) (hne : vf_n64 (FP.ddiv x y)) (kk : V X Γ A nL Q k n μ (pc + 1) lv (.double (FP.ddiv x y) :: st)) : V X Γ A nL Q k n μ pc lv (.double y :: .double x :: st) := fun H locs ls hG hS hM hl => lv_ddiv O.1 O.2.1 hd hne (kk H locs ls hG hS hM hl)
theorem v_dcmp (O : Ok X Γ A cc nL own F MC MS) {x y : UInt64} {op : CmpOp} (hd : decode cc pc = .ok (.dcmp op, 1))  (kk : V X Γ A nL Q k n μ (pc + 1) lv (.int (Op.cmpValue (FP.dcmp x y) op) :: st)) : V X Γ A nL Q k n μ pc lv (.double y :: .double x :: st) := fun H locs ls hG hS hM hl => lv_dcmp O.1 O.2.1 hd  (kk H locs ls hG hS hM hl)
theorem v_fload (O : Ok X Γ A cc nL own F MC MS) {j : Nat} {x : UInt32} (hd : decode cc pc = .ok (.fload j, 2)) (hv : lget lv j = some (.float x)) (kk : V X Γ A nL Q k n μ (pc + 2) lv (.float x :: st)) : V X Γ A nL Q k n μ pc lv st := fun H locs ls hG hS hM hl => lv_fload O.1 O.2.1 hd (lv_look hl hv) (kk H locs ls hG hS hM hl)
theorem v_dload (O : Ok X Γ A cc nL own F MC MS) {j : Nat} {x : UInt64} (hd : decode cc pc = .ok (.dload j, 2)) (hv : lget lv j = some (.double x)) (kk : V X Γ A nL Q k n μ (pc + 2) lv (.double x :: st)) : V X Γ A nL Q k n μ pc lv st := fun H locs ls hG hS hM hl => lv_dload O.1 O.2.1 hd (lv_look hl hv) (kk H locs ls hG hS hM hl)
theorem v_dload_n (O : Ok X Γ A cc nL own F MC MS) {j : Fin 4} {x : UInt64} (hd : decode cc pc = .ok (.dload_n j, 1)) (hv : lget lv j = some (.double x)) (kk : V X Γ A nL Q k n μ (pc + 1) lv (.double x :: st)) : V X Γ A nL Q k n μ pc lv st := fun H locs ls hG hS hM hl => lv_dload_n O.1 O.2.1 hd rfl (lv_look hl hv) (kk H locs ls hG hS hM hl)
theorem v_fstore (O : Ok X Γ A cc nL own F MC MS) {j : Nat} {x : UInt32} (hd : decode cc pc = .ok (.fstore j, 2)) (hn : Nat.blt j nL = true) (hl' : (j, Value.float x) :: lv.filter (fun q => !(q.1 == j) && !(q.1 + 1 == j && q.2.category == 2)) = lv') (kk : V X Γ A nL Q k n μ (pc + 2) lv' st) : V X Γ A nL Q k n μ pc lv (Value.float x :: st) := fun H locs ls hG hS hM hl => lv_fstore O.1 O.2.1 hd hl (Nat.le_of_ble_eq_true hn) hl' (fun ls' hl2 => kk H locs ls' hG hS hM hl2)
theorem v_dstore (O : Ok X Γ A cc nL own F MC MS) {j : Nat} {x : UInt64} (hd : decode cc pc = .ok (.dstore j, 2)) (hn : Nat.blt (j + 1) nL = true) (hl' : (j, Value.double x) :: lv.filter (fun q => !(q.1 == j) && (!(q.1 == j + 1) && !(q.1 + 1 == j && q.2.category == 2))) = lv') (kk : V X Γ A nL Q k n μ (pc + 2) lv' st) : V X Γ A nL Q k n μ pc lv (Value.double x :: st) := fun H locs ls hG hS hM hl => lv_dstore O.1 O.2.1 hd hl (Nat.le_of_ble_eq_true hn) hl' (fun ls' hl2 => kk H locs ls' hG hS hM hl2)
theorem v_ldcf (O : Ok X Γ A cc nL own F MC MS) {x : UInt32} (hd : decode cc pc = .ok (.ldc idx, 2)) (hq : Cond.constantFloat own idx x ∈ lw_all) (kk : V X Γ A nL Q k n μ (pc + 2) lv (.float x :: st)) : V X Γ A nL Q k n μ pc lv st := fun H locs ls hG hS hM hl => lv_ldcf O.1 O.2.1 O.2.2.2.1 (O.2.2.2.2.1 _ hq) hd (kk H locs ls hG hS hM hl)
theorem v_ldc2d (O : Ok X Γ A cc nL own F MC MS) {x : UInt64} (hd : decode cc pc = .ok (.ldc2_w idx, 3)) (hq : Cond.constantDouble own idx x ∈ lw_all) (kk : V X Γ A nL Q k n μ (pc + 3) lv (.double x :: st)) : V X Γ A nL Q k n μ pc lv st := fun H locs ls hG hS hM hl => lv_ldc2d O.1 O.2.1 O.2.2.2.1 (O.2.2.2.2.1 _ hq) hd (kk H locs ls hG hS hM hl)
end FLT
/-- the load factor, 0.75 -/
def LF : UInt32 := 1061158912
def thrOf (N : Nat) : Nat := 3 * N / 4
theorem thr_fs : ∀ e : Fin 7, 1 ≤ e.val → vf_n32 (FP.fmul (FP.i2f (nI (2 ^ e.val))) LF) ∧ FP.f2i (FP.fmul (FP.i2f (nI (2 ^ e.val))) LF) = nI (thrOf (2 ^ e.val)) ∧ Op.cmpValue (FP.fcmp (FP.fmul (FP.i2f (nI (2 ^ e.val))) LF) 1317011456) .g = -1 := by unfold vf_n32; decide +kernel
