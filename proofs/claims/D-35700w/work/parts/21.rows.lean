/-! MY ROWS: an instruction, a row, over V; contracts; calls -/
set_option maxRecDepth 100000
section VR1
variable {X : Cx} {Γ : Gm} {A : Nat → Prop} {cc : ByteArray} {nL : Nat} {own : String} {F MC MS : Nat} {Q : State → Prop} {k n : Nat} {μ : Mem} {pc : Nat} {lv lv' : List (Nat × Value)} {st : List Value}
theorem v_iconst (O : Ok X Γ A cc nL own F MC MS) {z : Int} {x : Int32} (hd : decode cc pc = .ok (.iconst z, 1)) (hv : Int32.ofInt z = x) (kk : V X Γ A nL Q k n μ (pc + 1) lv (.int x :: st)) : V X Γ A nL Q k n μ pc lv st := fun H locs ls hG hS hM hl => lv_iconst O.1 O.2.1 hd hv (kk H locs ls hG hS hM hl)
theorem v_bipush (O : Ok X Γ A cc nL own F MC MS) {z : Int} {x : Int32} (hd : decode cc pc = .ok (.bipush z, 2)) (hv : (Int8.ofInt z).toInt32 = x) (kk : V X Γ A nL Q k n μ (pc + 2) lv (.int x :: st)) : V X Γ A nL Q k n μ pc lv st := fun H locs ls hG hS hM hl => lv_bipush O.1 O.2.1 hd hv (kk H locs ls hG hS hM hl)
theorem v_sipush (O : Ok X Γ A cc nL own F MC MS) {z : Int} {x : Int32} (hd : decode cc pc = .ok (.sipush z, 3)) (hv : (Int16.ofInt z).toInt32 = x) (kk : V X Γ A nL Q k n μ (pc + 3) lv (.int x :: st)) : V X Γ A nL Q k n μ pc lv st := fun H locs ls hG hS hM hl => lv_sipush O.1 O.2.1 hd hv (kk H locs ls hG hS hM hl)
theorem v_null (O : Ok X Γ A cc nL own F MC MS) (hd : decode cc pc = .ok (.aconst_null, 1)) (kk : V X Γ A nL Q k n μ (pc + 1) lv (.null :: st)) : V X Γ A nL Q k n μ pc lv st := fun H locs ls hG hS hM hl => lv_null O.1 O.2.1 hd (kk H locs ls hG hS hM hl)
theorem v_ldci (O : Ok X Γ A cc nL own F MC MS) {idx : Nat} {x : Int32} (hd : decode cc pc = .ok (.ldc idx, 2)) (hq : Cond.constant own idx x ∈ lw_all) (kk : V X Γ A nL Q k n μ (pc + 2) lv (.int x :: st)) : V X Γ A nL Q k n μ pc lv st := fun H locs ls hG hS hM hl => lv_ldc O.1 O.2.1 O.2.2.2.1 (O.2.2.2.2.1 _ hq) hd (kk H locs ls hG hS hM hl)
theorem v_iload_n (O : Ok X Γ A cc nL own F MC MS) {j : Fin 4} {x : Int32} (hd : decode cc pc = .ok (.iload_n j, 1)) (hv : lget lv j = some (.int x)) (kk : V X Γ A nL Q k n μ (pc + 1) lv (.int x :: st)) : V X Γ A nL Q k n μ pc lv st := fun H locs ls hG hS hM hl => lv_iload_n O.1 O.2.1 hd rfl (lv_look hl hv) (kk H locs ls hG hS hM hl)
theorem v_iload (O : Ok X Γ A cc nL own F MC MS) {j : Nat} {x : Int32} (hd : decode cc pc = .ok (.iload j, 2)) (hv : lget lv j = some (.int x)) (kk : V X Γ A nL Q k n μ (pc + 2) lv (.int x :: st)) : V X Γ A nL Q k n μ pc lv st := fun H locs ls hG hS hM hl => lv_iload O.1 O.2.1 hd (lv_look hl hv) (kk H locs ls hG hS hM hl)
theorem v_aload_n (O : Ok X Γ A cc nL own F MC MS) {j : Fin 4} {x : Nat} (hd : decode cc pc = .ok (.aload_n j, 1)) (hv : lget lv j = some (.ref x)) (kk : V X Γ A nL Q k n μ (pc + 1) lv (.ref x :: st)) : V X Γ A nL Q k n μ pc lv st := fun H locs ls hG hS hM hl => lv_aload_n O.1 O.2.1 hd rfl (lv_look hl hv) (kk H locs ls hG hS hM hl)
theorem v_aload (O : Ok X Γ A cc nL own F MC MS) {j : Nat} {x : Nat} (hd : decode cc pc = .ok (.aload j, 2)) (hv : lget lv j = some (.ref x)) (kk : V X Γ A nL Q k n μ (pc + 2) lv (.ref x :: st)) : V X Γ A nL Q k n μ pc lv st := fun H locs ls hG hS hM hl => lv_aload O.1 O.2.1 hd (lv_look hl hv) (kk H locs ls hG hS hM hl)
theorem v_aload_nN (O : Ok X Γ A cc nL own F MC MS) {j : Fin 4} (hd : decode cc pc = .ok (.aload_n j, 1)) (hv : lget lv j = some .null) (kk : V X Γ A nL Q k n μ (pc + 1) lv (.null :: st)) : V X Γ A nL Q k n μ pc lv st := fun H locs ls hG hS hM hl => lv_aload_nN O.1 O.2.1 hd rfl (lv_look hl hv) (kk H locs ls hG hS hM hl)
theorem v_aloadN (O : Ok X Γ A cc nL own F MC MS) {j : Nat} (hd : decode cc pc = .ok (.aload j, 2)) (hv : lget lv j = some .null) (kk : V X Γ A nL Q k n μ (pc + 2) lv (.null :: st)) : V X Γ A nL Q k n μ pc lv st := fun H locs ls hG hS hM hl => lv_aloadN O.1 O.2.1 hd (lv_look hl hv) (kk H locs ls hG hS hM hl)
theorem v_istore_n (O : Ok X Γ A cc nL own F MC MS) {j : Fin 4} {x : Int32} (hd : decode cc pc = .ok (.istore_n j, 1)) (hn : Nat.blt (j : Nat) nL = true) (hl' : ((j : Nat), Value.int x) :: lv.filter (fun q => !(q.1 == (j : Nat)) && !(q.1 + 1 == (j : Nat) && q.2.category == 2)) = lv') (kk : V X Γ A nL Q k n μ (pc + 1) lv' st) : V X Γ A nL Q k n μ pc lv (Value.int x :: st) := fun H locs ls hG hS hM hl => lv_istore_n O.1 O.2.1 hd rfl hl (Nat.le_of_ble_eq_true hn) hl' (fun ls' hl2 => kk H locs ls' hG hS hM hl2)
theorem v_istore (O : Ok X Γ A cc nL own F MC MS) {j : Nat} {x : Int32} (hd : decode cc pc = .ok (.istore j, 2)) (hn : Nat.blt j nL = true) (hl' : (j, Value.int x) :: lv.filter (fun q => !(q.1 == j) && !(q.1 + 1 == j && q.2.category == 2)) = lv') (kk : V X Γ A nL Q k n μ (pc + 2) lv' st) : V X Γ A nL Q k n μ pc lv (Value.int x :: st) := fun H locs ls hG hS hM hl => lv_istore O.1 O.2.1 hd hl (Nat.le_of_ble_eq_true hn) hl' (fun ls' hl2 => kk H locs ls' hG hS hM hl2)
theorem v_astore_n (O : Ok X Γ A cc nL own F MC MS) {j : Fin 4} {x : Nat} (hd : decode cc pc = .ok (.astore_n j, 1)) (hn : Nat.blt (j : Nat) nL = true) (hl' : ((j : Nat), Value.ref x) :: lv.filter (fun q => !(q.1 == (j : Nat)) && !(q.1 + 1 == (j : Nat) && q.2.category == 2)) = lv') (kk : V X Γ A nL Q k n μ (pc + 1) lv' st) : V X Γ A nL Q k n μ pc lv (Value.ref x :: st) := fun H locs ls hG hS hM hl => lv_astore_n O.1 O.2.1 hd rfl hl (Nat.le_of_ble_eq_true hn) hl' (fun ls' hl2 => kk H locs ls' hG hS hM hl2)
theorem v_astore (O : Ok X Γ A cc nL own F MC MS) {j : Nat} {x : Nat} (hd : decode cc pc = .ok (.astore j, 2)) (hn : Nat.blt j nL = true) (hl' : (j, Value.ref x) :: lv.filter (fun q => !(q.1 == j) && !(q.1 + 1 == j && q.2.category == 2)) = lv') (kk : V X Γ A nL Q k n μ (pc + 2) lv' st) : V X Γ A nL Q k n μ pc lv (Value.ref x :: st) := fun H locs ls hG hS hM hl => lv_astore O.1 O.2.1 hd hl (Nat.le_of_ble_eq_true hn) hl' (fun ls' hl2 => kk H locs ls' hG hS hM hl2)
theorem v_astore_nN (O : Ok X Γ A cc nL own F MC MS) {j : Fin 4} (hd : decode cc pc = .ok (.astore_n j, 1)) (hn : Nat.blt (j : Nat) nL = true) (hl' : ((j : Nat), Value.null) :: lv.filter (fun q => !(q.1 == (j : Nat)) && !(q.1 + 1 == (j : Nat) && q.2.category == 2)) = lv') (kk : V X Γ A nL Q k n μ (pc + 1) lv' st) : V X Γ A nL Q k n μ pc lv (Value.null :: st) := fun H locs ls hG hS hM hl => lv_astore_nN O.1 O.2.1 hd rfl hl (Nat.le_of_ble_eq_true hn) hl' (fun ls' hl2 => kk H locs ls' hG hS hM hl2)
theorem v_astoreN (O : Ok X Γ A cc nL own F MC MS) {j : Nat} (hd : decode cc pc = .ok (.astore j, 2)) (hn : Nat.blt j nL = true) (hl' : (j, Value.null) :: lv.filter (fun q => !(q.1 == j) && !(q.1 + 1 == j && q.2.category == 2)) = lv') (kk : V X Γ A nL Q k n μ (pc + 2) lv' st) : V X Γ A nL Q k n μ pc lv (Value.null :: st) := fun H locs ls hG hS hM hl => lv_astoreN O.1 O.2.1 hd hl (Nat.le_of_ble_eq_true hn) hl' (fun ls' hl2 => kk H locs ls' hG hS hM hl2)
theorem lget_at {lv : List (Nat × Value)} {j : Nat} {v : Value} (h : lget lv j = some v) : ∃ i : Nat, lv[i]? = some (j, v) := List.getElem?_of_mem (lget_mem h)
theorem v_iinc (O : Ok X Γ A cc nL own F MC MS) {j : Nat} {z : Int} {x y : Int32} (hd : decode cc pc = .ok (.iinc j z, 3)) (hv : lget lv j = some (.int x)) (hy : x + Int32.ofInt z = y) (hn : Nat.blt j nL = true) (hl' : (j, Value.int y) :: lv.filter (fun q => !(q.1 == j) && !(q.1 + 1 == j && q.2.category == 2)) = lv') (kk : V X Γ A nL Q k n μ (pc + 3) lv' st) : V X Γ A nL Q k n μ pc lv st := fun H locs ls hG hS hM hl => by
  obtain ⟨i, hi⟩ := lget_at hv
  exact lv_iinc O.1 O.2.1 hd hl (k := i) hi hy (Nat.le_of_ble_eq_true hn) hl' (fun ls' hl2 => kk H locs ls' hG hS hM hl2)
theorem v_iadd (O : Ok X Γ A cc nL own F MC MS) {x y : Int32} (hd : decode cc pc = .ok (.iadd, 1)) (kk : V X Γ A nL Q k n μ (pc + 1) lv (.int (x + y) :: st)) : V X Γ A nL Q k n μ pc lv (.int y :: .int x :: st) := fun H locs ls hG hS hM hl => lv_iadd O.1 O.2.1 hd (kk H locs ls hG hS hM hl)
theorem v_isub (O : Ok X Γ A cc nL own F MC MS) {x y : Int32} (hd : decode cc pc = .ok (.isub, 1)) (kk : V X Γ A nL Q k n μ (pc + 1) lv (.int (x - y) :: st)) : V X Γ A nL Q k n μ pc lv (.int y :: .int x :: st) := fun H locs ls hG hS hM hl => lv_isub O.1 O.2.1 hd (kk H locs ls hG hS hM hl)
theorem v_imul (O : Ok X Γ A cc nL own F MC MS) {x y : Int32} (hd : decode cc pc = .ok (.imul, 1)) (kk : V X Γ A nL Q k n μ (pc + 1) lv (.int (x * y) :: st)) : V X Γ A nL Q k n μ pc lv (.int y :: .int x :: st) := fun H locs ls hG hS hM hl => lv_imul O.1 O.2.1 hd (kk H locs ls hG hS hM hl)
theorem v_iand (O : Ok X Γ A cc nL own F MC MS) {x y : Int32} (hd : decode cc pc = .ok (.iand, 1)) (kk : V X Γ A nL Q k n μ (pc + 1) lv (.int (x &&& y) :: st)) : V X Γ A nL Q k n μ pc lv (.int y :: .int x :: st) := fun H locs ls hG hS hM hl => lv_iand O.1 O.2.1 hd (kk H locs ls hG hS hM hl)
theorem v_ior (O : Ok X Γ A cc nL own F MC MS) {x y : Int32} (hd : decode cc pc = .ok (.ior, 1)) (kk : V X Γ A nL Q k n μ (pc + 1) lv (.int (x ||| y) :: st)) : V X Γ A nL Q k n μ pc lv (.int y :: .int x :: st) := fun H locs ls hG hS hM hl => lv_ior O.1 O.2.1 hd (kk H locs ls hG hS hM hl)
theorem v_ixor (O : Ok X Γ A cc nL own F MC MS) {x y : Int32} (hd : decode cc pc = .ok (.ixor, 1)) (kk : V X Γ A nL Q k n μ (pc + 1) lv (.int (x ^^^ y) :: st)) : V X Γ A nL Q k n μ pc lv (.int y :: .int x :: st) := fun H locs ls hG hS hM hl => lv_ixor O.1 O.2.1 hd (kk H locs ls hG hS hM hl)
theorem v_ishl (O : Ok X Γ A cc nL own F MC MS) {x y : Int32} (hd : decode cc pc = .ok (.ishl, 1)) (kk : V X Γ A nL Q k n μ (pc + 1) lv (.int (x <<< (y &&& 31)) :: st)) : V X Γ A nL Q k n μ pc lv (.int y :: .int x :: st) := fun H locs ls hG hS hM hl => lv_ishl O.1 O.2.1 hd (kk H locs ls hG hS hM hl)
theorem v_ishr (O : Ok X Γ A cc nL own F MC MS) {x y : Int32} (hd : decode cc pc = .ok (.ishr, 1)) (kk : V X Γ A nL Q k n μ (pc + 1) lv (.int (x >>> (y &&& 31)) :: st)) : V X Γ A nL Q k n μ pc lv (.int y :: .int x :: st) := fun H locs ls hG hS hM hl => lv_ishr O.1 O.2.1 hd (kk H locs ls hG hS hM hl)
theorem v_iushr (O : Ok X Γ A cc nL own F MC MS) {x y v : Int32} (hd : decode cc pc = .ok (.iushr, 1)) (hv : (x.toUInt32 >>> (y.toUInt32 &&& Int32.toUInt32 31)).toInt32 = v) (kk : V X Γ A nL Q k n μ (pc + 1) lv (.int v :: st)) : V X Γ A nL Q k n μ pc lv (.int y :: .int x :: st) := fun H locs ls hG hS hM hl => lv_iushr O.1 O.2.1 hd hv (kk H locs ls hG hS hM hl)
theorem v_ineg (O : Ok X Γ A cc nL own F MC MS) {x : Int32} (hd : decode cc pc = .ok (.ineg, 1)) (kk : V X Γ A nL Q k n μ (pc + 1) lv (.int (-x) :: st)) : V X Γ A nL Q k n μ pc lv (.int x :: st) := fun H locs ls hG hS hM hl => lv_ineg O.1 O.2.1 hd (kk H locs ls hG hS hM hl)
theorem v_i2l (O : Ok X Γ A cc nL own F MC MS) {x : Int32} {v : Int64} (hd : decode cc pc = .ok (.i2l, 1)) (hv : x.toInt64 = v) (kk : V X Γ A nL Q k n μ (pc + 1) lv (.long v :: st)) : V X Γ A nL Q k n μ pc lv (.int x :: st) := fun H locs ls hG hS hM hl => lv_i2l O.1 O.2.1 hd hv (kk H locs ls hG hS hM hl)
theorem v_dup (O : Ok X Γ A cc nL own F MC MS) {a : Value} (hd : decode cc pc = .ok (.dup, 1)) (ha : a.category = 1) (kk : V X Γ A nL Q k n μ (pc + 1) lv (a :: a :: st)) : V X Γ A nL Q k n μ pc lv (a :: st) := fun H locs ls hG hS hM hl => lv_dup O.1 O.2.1 hd ha (kk H locs ls hG hS hM hl)
theorem v_pop (O : Ok X Γ A cc nL own F MC MS) {a : Value} (hd : decode cc pc = .ok (.pop, 1)) (ha : a.category = 1) (kk : V X Γ A nL Q k n μ (pc + 1) lv st) : V X Γ A nL Q k n μ pc lv (a :: st) := fun H locs ls hG hS hM hl => lv_pop O.1 O.2.1 hd ha (kk H locs ls hG hS hM hl)
theorem v_dup_x1 (O : Ok X Γ A cc nL own F MC MS) {a b : Value} (hd : decode cc pc = .ok (.dup_x1, 1)) (ha : a.category = 1) (hb : b.category = 1) (kk : V X Γ A nL Q k n μ (pc + 1) lv (a :: b :: a :: st)) : V X Γ A nL Q k n μ pc lv (a :: b :: st) := fun H locs ls hG hS hM hl => lv_dup_x1 O.1 O.2.1 hd ha hb (kk H locs ls hG hS hM hl)
theorem v_dup2 (O : Ok X Γ A cc nL own F MC MS) {a b : Value} (hd : decode cc pc = .ok (.dup2, 1)) (ha : a.category = 1) (hb : b.category = 1) (kk : V X Γ A nL Q k n μ (pc + 1) lv (a :: b :: a :: b :: st)) : V X Γ A nL Q k n μ pc lv (a :: b :: st) := fun H locs ls hG hS hM hl => lv_dup2_11 O.1 O.2.1 hd ha hb (kk H locs ls hG hS hM hl)
theorem v_dup_x2 (O : Ok X Γ A cc nL own F MC MS) {a b d : Value} (hd : decode cc pc = .ok (.dup_x2, 1)) (ha : a.category = 1) (hb : b.category = 1) (hc : d.category = 1) (kk : V X Γ A nL Q k n μ (pc + 1) lv (a :: b :: d :: a :: st)) : V X Γ A nL Q k n μ pc lv (a :: b :: d :: st) := fun H locs ls hG hS hM hl => lv_dup_x2 O.1 O.2.1 hd ha hb hc (kk H locs ls hG hS hM hl)
theorem v_if_eq (O : Ok X Γ A cc nL own F MC MS) {x : Int32} {off : Int} {tgt : Nat} (hd : decode cc pc = .ok (.ifCond .eq off, 3)) (ht : (pc : Int) + off = (tgt : Int)) (kt : x = 0 → V X Γ A nL Q k n μ tgt lv st) (kf : ¬ x = 0 → V X Γ A nL Q k n μ (pc + 3) lv st) : V X Γ A nL Q k n μ pc lv (.int x :: st) := fun H locs ls hG hS hM hl => lv_if_eq O.1 O.2.1 hd ht (fun z => kt z H locs ls hG hS hM hl) (fun z => kf z H locs ls hG hS hM hl)
theorem v_icmp_eq (O : Ok X Γ A cc nL own F MC MS) {x y : Int32} {off : Int} {tgt : Nat} (hd : decode cc pc = .ok (.if_icmp .eq off, 3)) (ht : (pc : Int) + off = (tgt : Int)) (kt : x = y → V X Γ A nL Q k n μ tgt lv st) (kf : ¬ x = y → V X Γ A nL Q k n μ (pc + 3) lv st) : V X Γ A nL Q k n μ pc lv (.int y :: .int x :: st) := fun H locs ls hG hS hM hl => lv_icmp_eq O.1 O.2.1 hd ht (fun z => kt z H locs ls hG hS hM hl) (fun z => kf z H locs ls hG hS hM hl)
theorem v_if_ne (O : Ok X Γ A cc nL own F MC MS) {x : Int32} {off : Int} {tgt : Nat} (hd : decode cc pc = .ok (.ifCond .ne off, 3)) (ht : (pc : Int) + off = (tgt : Int)) (kt : ¬ x = 0 → V X Γ A nL Q k n μ tgt lv st) (kf : x = 0 → V X Γ A nL Q k n μ (pc + 3) lv st) : V X Γ A nL Q k n μ pc lv (.int x :: st) := fun H locs ls hG hS hM hl => lv_if_ne O.1 O.2.1 hd ht (fun z => kt z H locs ls hG hS hM hl) (fun z => kf z H locs ls hG hS hM hl)
theorem v_icmp_ne (O : Ok X Γ A cc nL own F MC MS) {x y : Int32} {off : Int} {tgt : Nat} (hd : decode cc pc = .ok (.if_icmp .ne off, 3)) (ht : (pc : Int) + off = (tgt : Int)) (kt : ¬ x = y → V X Γ A nL Q k n μ tgt lv st) (kf : x = y → V X Γ A nL Q k n μ (pc + 3) lv st) : V X Γ A nL Q k n μ pc lv (.int y :: .int x :: st) := fun H locs ls hG hS hM hl => lv_icmp_ne O.1 O.2.1 hd ht (fun z => kt z H locs ls hG hS hM hl) (fun z => kf z H locs ls hG hS hM hl)
theorem v_if_lt (O : Ok X Γ A cc nL own F MC MS) {x : Int32} {off : Int} {tgt : Nat} (hd : decode cc pc = .ok (.ifCond .lt off, 3)) (ht : (pc : Int) + off = (tgt : Int)) (kt : x < 0 → V X Γ A nL Q k n μ tgt lv st) (kf : ¬ x < 0 → V X Γ A nL Q k n μ (pc + 3) lv st) : V X Γ A nL Q k n μ pc lv (.int x :: st) := fun H locs ls hG hS hM hl => lv_if_lt O.1 O.2.1 hd ht (fun z => kt z H locs ls hG hS hM hl) (fun z => kf z H locs ls hG hS hM hl)
theorem v_icmp_lt (O : Ok X Γ A cc nL own F MC MS) {x y : Int32} {off : Int} {tgt : Nat} (hd : decode cc pc = .ok (.if_icmp .lt off, 3)) (ht : (pc : Int) + off = (tgt : Int)) (kt : x < y → V X Γ A nL Q k n μ tgt lv st) (kf : ¬ x < y → V X Γ A nL Q k n μ (pc + 3) lv st) : V X Γ A nL Q k n μ pc lv (.int y :: .int x :: st) := fun H locs ls hG hS hM hl => lv_icmp_lt O.1 O.2.1 hd ht (fun z => kt z H locs ls hG hS hM hl) (fun z => kf z H locs ls hG hS hM hl)
theorem v_if_ge (O : Ok X Γ A cc nL own F MC MS) {x : Int32} {off : Int} {tgt : Nat} (hd : decode cc pc = .ok (.ifCond .ge off, 3)) (ht : (pc : Int) + off = (tgt : Int)) (kt : 0 ≤ x → V X Γ A nL Q k n μ tgt lv st) (kf : ¬ 0 ≤ x → V X Γ A nL Q k n μ (pc + 3) lv st) : V X Γ A nL Q k n μ pc lv (.int x :: st) := fun H locs ls hG hS hM hl => lv_if_ge O.1 O.2.1 hd ht (fun z => kt z H locs ls hG hS hM hl) (fun z => kf z H locs ls hG hS hM hl)
theorem v_icmp_ge (O : Ok X Γ A cc nL own F MC MS) {x y : Int32} {off : Int} {tgt : Nat} (hd : decode cc pc = .ok (.if_icmp .ge off, 3)) (ht : (pc : Int) + off = (tgt : Int)) (kt : y ≤ x → V X Γ A nL Q k n μ tgt lv st) (kf : ¬ y ≤ x → V X Γ A nL Q k n μ (pc + 3) lv st) : V X Γ A nL Q k n μ pc lv (.int y :: .int x :: st) := fun H locs ls hG hS hM hl => lv_icmp_ge O.1 O.2.1 hd ht (fun z => kt z H locs ls hG hS hM hl) (fun z => kf z H locs ls hG hS hM hl)
theorem v_if_gt (O : Ok X Γ A cc nL own F MC MS) {x : Int32} {off : Int} {tgt : Nat} (hd : decode cc pc = .ok (.ifCond .gt off, 3)) (ht : (pc : Int) + off = (tgt : Int)) (kt : 0 < x → V X Γ A nL Q k n μ tgt lv st) (kf : ¬ 0 < x → V X Γ A nL Q k n μ (pc + 3) lv st) : V X Γ A nL Q k n μ pc lv (.int x :: st) := fun H locs ls hG hS hM hl => lv_if_gt O.1 O.2.1 hd ht (fun z => kt z H locs ls hG hS hM hl) (fun z => kf z H locs ls hG hS hM hl)
theorem v_icmp_gt (O : Ok X Γ A cc nL own F MC MS) {x y : Int32} {off : Int} {tgt : Nat} (hd : decode cc pc = .ok (.if_icmp .gt off, 3)) (ht : (pc : Int) + off = (tgt : Int)) (kt : y < x → V X Γ A nL Q k n μ tgt lv st) (kf : ¬ y < x → V X Γ A nL Q k n μ (pc + 3) lv st) : V X Γ A nL Q k n μ pc lv (.int y :: .int x :: st) := fun H locs ls hG hS hM hl => lv_icmp_gt O.1 O.2.1 hd ht (fun z => kt z H locs ls hG hS hM hl) (fun z => kf z H locs ls hG hS hM hl)
theorem v_if_le (O : Ok X Γ A cc nL own F MC MS) {x : Int32} {off : Int} {tgt : Nat} (hd : decode cc pc = .ok (.ifCond .le off, 3)) (ht : (pc : Int) + off = (tgt : Int)) (kt : x ≤ 0 → V X Γ A nL Q k n μ tgt lv st) (kf : ¬ x ≤ 0 → V X Γ A nL Q k n μ (pc + 3) lv st) : V X Γ A nL Q k n μ pc lv (.int x :: st) := fun H locs ls hG hS hM hl => lv_if_le O.1 O.2.1 hd ht (fun z => kt z H locs ls hG hS hM hl) (fun z => kf z H locs ls hG hS hM hl)
theorem v_icmp_le (O : Ok X Γ A cc nL own F MC MS) {x y : Int32} {off : Int} {tgt : Nat} (hd : decode cc pc = .ok (.if_icmp .le off, 3)) (ht : (pc : Int) + off = (tgt : Int)) (kt : x ≤ y → V X Γ A nL Q k n μ tgt lv st) (kf : ¬ x ≤ y → V X Γ A nL Q k n μ (pc + 3) lv st) : V X Γ A nL Q k n μ pc lv (.int y :: .int x :: st) := fun H locs ls hG hS hM hl => lv_icmp_le O.1 O.2.1 hd ht (fun z => kt z H locs ls hG hS hM hl) (fun z => kf z H locs ls hG hS hM hl)
theorem v_goto (O : Ok X Γ A cc nL own F MC MS) {off : Int} {tgt : Nat} (hd : decode cc pc = .ok (.goto off, 3)) (ht : (pc : Int) + off = (tgt : Int)) (kk : V X Γ A nL Q k n μ tgt lv st) : V X Γ A nL Q k n μ pc lv st := fun H locs ls hG hS hM hl => lv_goto O.1 O.2.1 hd ht (kk H locs ls hG hS hM hl)
theorem v_ifnonnull (O : Ok X Γ A cc nL own F MC MS) {x : Nat} {off : Int} {tgt : Nat} (hd : decode cc pc = .ok (.ifnonnull off, 3)) (ht : (pc : Int) + off = (tgt : Int)) (kk : V X Γ A nL Q k n μ tgt lv st) : V X Γ A nL Q k n μ pc lv (.ref x :: st) := fun H locs ls hG hS hM hl => lv_ifnonnull O.1 O.2.1 hd ht (kk H locs ls hG hS hM hl)
theorem v_ifnull (O : Ok X Γ A cc nL own F MC MS) {x : Nat} {off : Int} (hd : decode cc pc = .ok (.ifnull off, 3)) (kk : V X Γ A nL Q k n μ (pc + 3) lv st) : V X Γ A nL Q k n μ pc lv (.ref x :: st) := fun H locs ls hG hS hM hl => lv_ifnull O.1 O.2.1 hd (kk H locs ls hG hS hM hl)
theorem v_ifnullN (O : Ok X Γ A cc nL own F MC MS) {off : Int} {tgt : Nat} (hd : decode cc pc = .ok (.ifnull off, 3)) (ht : (pc : Int) + off = (tgt : Int)) (kk : V X Γ A nL Q k n μ tgt lv st) : V X Γ A nL Q k n μ pc lv (.null :: st) := fun H locs ls hG hS hM hl => lv_ifnullN O.1 O.2.1 hd ht (kk H locs ls hG hS hM hl)
theorem v_ifnonnullN (O : Ok X Γ A cc nL own F MC MS) {off : Int} (hd : decode cc pc = .ok (.ifnonnull off, 3)) (kk : V X Γ A nL Q k n μ (pc + 3) lv st) : V X Γ A nL Q k n μ pc lv (.null :: st) := fun H locs ls hG hS hM hl => lv_ifnonnullN O.1 O.2.1 hd (kk H locs ls hG hS hM hl)
end VR1
theorem Ok.hx {X : Cx} {Γ : Gm} {A : Nat → Prop} {cc : ByteArray} {nL : Nat} {own : String} {F MC MS : Nat} (O : Ok X Γ A cc nL own F MC MS) : (xP X).tables.exec = Jvm.exec := O.1
theorem Ok.hb {X : Cx} {Γ : Gm} {A : Nat → Prop} {cc : ByteArray} {nL : Nat} {own : String} {F MC MS : Nat} (O : Ok X Γ A cc nL own F MC MS) : (xC X).code = cc := O.2.1
theorem Ok.hml {X : Cx} {Γ : Gm} {A : Nat → Prop} {cc : ByteArray} {nL : Nat} {own : String} {F MC MS : Nat} (O : Ok X Γ A cc nL own F MC MS) : (xC X).maxLocals = nL := O.2.2.1
theorem Ok.hown {X : Cx} {Γ : Gm} {A : Nat → Prop} {cc : ByteArray} {nL : Nat} {own : String} {F MC MS : Nat} (O : Ok X Γ A cc nL own F MC MS) : (xS X).vm.findClass own = some (xM X).cls := O.2.2.2.1
theorem Ok.hts {X : Cx} {Γ : Gm} {A : Nat → Prop} {cc : ByteArray} {nL : Nat} {own : String} {F MC MS : Nat} (O : Ok X Γ A cc nL own F MC MS) : ∀ w ∈ lw_all, w.before (xA X) (xS X) = true := O.2.2.2.2.1
theorem Ok.KK {X : Cx} {Γ : Gm} {A : Nat → Prop} {cc : ByteArray} {nL : Nat} {own : String} {F MC MS : Nat} (O : Ok X Γ A cc nL own F MC MS) : KK Γ A (xS X) (xS X).heap := O.2.2.2.2.2.1
theorem Ok.hA {X : Cx} {Γ : Gm} {A : Nat → Prop} {cc : ByteArray} {nL : Nat} {own : String} {F MC MS : Nat} (O : Ok X Γ A cc nL own F MC MS) : ∀ q, (xS X).heap.size ≤ q → A q := O.2.2.2.2.2.2.1
theorem Ok.hR {X : Cx} {Γ : Gm} {A : Nat → Prop} {cc : ByteArray} {nL : Nat} {own : String} {F MC MS : Nat} (O : Ok X Γ A cc nL own F MC MS) : F ≤ (xR X).frames ∧ 64 * F ≤ (xR X).locals ∧ MC ≤ (xR X).cells ∧ MS ≤ (xR X).slots := O.2.2.2.2.2.2.2.1
theorem Ok.hlk {X : Cx} {Γ : Gm} {A : Nat → Prop} {cc : ByteArray} {nL : Nat} {own : String} {F MC MS : Nat} (O : Ok X Γ A cc nL own F MC MS) : (xT X).locks = false := O.2.2.2.2.2.2.2.2
theorem Ok.nw {X : Cx} {Γ : Gm} {A : Nat → Prop} {cc : ByteArray} {nL : Nat} {own : String} {F MC MS : Nat} (O : Ok X Γ A cc nL own F MC MS) {w : Cond} (h : w ∈ lw_tbl) (hk : nwk w = true) : va_Nw w (xS X) := O.KK.2.1.1 w h hk
theorem nwk_on {w : Cond} (hk : nwk w = true) : w.onTables = true := by
  cases w <;> first | rfl | exact absurd hk (by simp [nwk])
theorem Ok.nw' {X : Cx} {Γ : Gm} {A : Nat → Prop} {cc : ByteArray} {nL : Nat} {own : String} {F MC MS : Nat} (O : Ok X Γ A cc nL own F MC MS) {w : Cond} (h : w ∈ lw_tbl) (hk : nwk w = true) : w.before (xA X) (xS X) = true := va_Nw.use (nwk_on hk) (O.nw h hk)
section VR2
variable {X : Cx} {Γ : Gm} {A : Nat → Prop} {cc : ByteArray} {nL : Nat} {own : String} {F MC MS : Nat} {Q : State → Prop} {k n : Nat} {μ : Mem} {pc : Nat} {lv : List (Nat × Value)} {st : List Value}
variable {ci : Nat} {C : String} {T : u_T} {N : Nat} {ty : Nat → FieldType} {a : Nat} {fs : List Value} {t : Nat} {idx : Nat} {ref : String}
/-! fields -/
theorem v_getf (O : Ok X Γ A cc nL own F MC MS) (hc : CI ci C T N ty) (hμ : μ a = some (.inr (ci, fs), t)) (j : Nat) (hj : Nat.blt j N = true) (hq : Cond.fieldLink own idx ref (T j).2.1 (T j).2.2.1 ∈ lw_all) (hs : ∀ x, (xS X).fieldFound? (T j).1 (T j).2.1 (T j).2.2.1 = some x → (xS X).fieldFound? ref (T j).2.1 (T j).2.2.1 = some x) {v : Value} (hv : fs[j]? = some v) (hd : decode cc pc = .ok (.getfield idx, 3)) (kk : V X Γ A nL Q k n μ (pc + 3) lv (v :: st)) : V X Γ A nL Q k n μ pc lv (.ref a :: st) := by
  intro H locs ls hG hS hM hl
  obtain ⟨q0, he⟩ := wl_at (n := H.size) (hG.lt hμ) hμ
  exact va_get O.hx O.hb O.hts hc.2.1 O.hown O.KK.1 (hG.P _) q0 he hc.1 j (Nat.le_of_ble_eq_true hj) (O.hts _ hq) hs hv hd (kk H locs ls hG hS hM hl)
theorem v_getN (O : Ok X Γ A cc nL own F MC MS) (hc : CI ci C T N ty) {host : String} (hμ : μ a = some (.inr (ci, fs), t)) (j : Nat) (hj : Nat.blt j N = true) (hq : Cond.fieldLinkNest own idx ref (T j).2.1 (T j).2.2.1 host ∈ lw_tbl) (hs : ∀ x, (xS X).fieldFound? (T j).1 (T j).2.1 (T j).2.2.1 = some x → (xS X).fieldFound? ref (T j).2.1 (T j).2.2.1 = some x) {v : Value} (hv : fs[j]? = some v) (hd : decode cc pc = .ok (.getfield idx, 3)) (kk : V X Γ A nL Q k n μ (pc + 3) lv (v :: st)) : V X Γ A nL Q k n μ pc lv (.ref a :: st) := by
  intro H locs ls hG hS hM hl
  obtain ⟨q0, he⟩ := wl_at (n := H.size) (hG.lt hμ) hμ
  exact va_getN O.hx O.hb O.hts hc.2.1 O.hown O.KK.1 (hG.P _) q0 he hc.1 j (Nat.le_of_ble_eq_true hj) (O.nw' hq rfl) hs hv hd (kk H locs ls hG hS hM hl)
theorem v_put (O : Ok X Γ A cc nL own F MC MS) (hc : CI ci C T N ty) (hμ : μ a = some (.inr (ci, fs), t)) (j : Nat) (hj : Nat.blt j N = true) (hq : Cond.fieldLink own idx ref (T j).2.1 (T j).2.2.1 ∈ lw_all) (hs : ∀ x, (xS X).fieldFound? (T j).1 (T j).2.1 (T j).2.2.1 = some x → (xS X).fieldFound? ref (T j).2.1 (T j).2.2.1 = some x) (hf : (T j).2.2.2 = false) {v : Value} (hn : narrow (ty j) v = v) (hfit : fits (ty j) v = true) (hlen : j < fs.length) (hd : decode cc pc = .ok (.putfield idx, 3)) (kk : V X Γ A nL Q k n (mup μ a (.inr (ci, fs.set j v), t)) (pc + 3) lv st) : V X Γ A nL Q k n μ pc lv (v :: .ref a :: st) := by
  intro H locs ls hG hS hM hl
  obtain ⟨q0, he⟩ := wl_at (n := H.size) (hG.lt hμ) hμ
  refine va_put O.hx O.hb O.hts hc.2.1 ty hc.2.2.1 hc.2.2.2 O.hown O.KK.1 (hG.P H.size) (wl_D hM) hS q0 he hc.1 j (Nat.le_of_ble_eq_true hj) (O.hts _ hq) hs hf (hc.2.2.1 j (Nat.le_of_ble_eq_true hj)) hn hfit hlen hd (fun H1 locs1 hP1 hD1 hS1 => ?_)
  refine kk H1 locs1 ls (hG.set (Nat.le_refl _) he hP1 t) hS1 (fun b hb => ?_) hl
  by_cases e : b = a
  · subst e; exact hM b (by rw [hμ]; exact fun z => by cases z)
  · exact hM b (by rw [mup_ne e] at hb; exact hb)
theorem v_putN (O : Ok X Γ A cc nL own F MC MS) (hc : CI ci C T N ty) {host : String} (hμ : μ a = some (.inr (ci, fs), t)) (j : Nat) (hj : Nat.blt j N = true) (hq : Cond.fieldLinkNest own idx ref (T j).2.1 (T j).2.2.1 host ∈ lw_tbl) (hs : ∀ x, (xS X).fieldFound? (T j).1 (T j).2.1 (T j).2.2.1 = some x → (xS X).fieldFound? ref (T j).2.1 (T j).2.2.1 = some x) (hf : (T j).2.2.2 = false) {v : Value} (hn : narrow (ty j) v = v) (hfit : fits (ty j) v = true) (hlen : j < fs.length) (hd : decode cc pc = .ok (.putfield idx, 3)) (kk : V X Γ A nL Q k n (mup μ a (.inr (ci, fs.set j v), t)) (pc + 3) lv st) : V X Γ A nL Q k n μ pc lv (v :: .ref a :: st) := by
  intro H locs ls hG hS hM hl
  obtain ⟨q0, he⟩ := wl_at (n := H.size) (hG.lt hμ) hμ
  refine va_putN O.hx O.hb O.hts hc.2.1 ty hc.2.2.1 hc.2.2.2 O.hown O.KK.1 (hG.P H.size) (wl_D hM) hS q0 he hc.1 j (Nat.le_of_ble_eq_true hj) (O.nw' hq rfl) hs hf (hc.2.2.1 j (Nat.le_of_ble_eq_true hj)) hn hfit hlen hd (fun H1 locs1 hP1 hD1 hS1 => ?_)
  refine kk H1 locs1 ls (hG.set (Nat.le_refl _) he hP1 t) hS1 (fun b hb => ?_) hl
  by_cases e : b = a
  · subst e; exact hM b (by rw [hμ]; exact fun z => by cases z)
  · exact hM b (by rw [mup_ne e] at hb; exact hb)
theorem v_putF (O : Ok X Γ A cc nL own F MC MS) (hin : (xT X).name = "<init>") (hc : CI ci C T N ty) (hμ : μ a = some (.inr (ci, fs), t)) (j : Nat) (hj : Nat.blt j N = true) (hq : Cond.fieldLink own idx ref (T j).2.1 (T j).2.2.1 ∈ lw_all) (hs : ∀ x, (xS X).fieldFound? (T j).1 (T j).2.1 (T j).2.2.1 = some x → (xS X).fieldFound? ref (T j).2.1 (T j).2.2.1 = some x) (hf : (T j).2.2.2 = true) (hdc : (T j).1 = own) {v : Value} (hn : narrow (ty j) v = v) (hfit : fits (ty j) v = true) (hlen : j < fs.length) (hd : decode cc pc = .ok (.putfield idx, 3)) (kk : V X Γ A nL Q k n (mup μ a (.inr (ci, fs.set j v), t)) (pc + 3) lv st) : V X Γ A nL Q k n μ pc lv (v :: .ref a :: st) := by
  intro H locs ls hG hS hM hl
  obtain ⟨q0, he⟩ := wl_at (n := H.size) (hG.lt hμ) hμ
  refine va_putF O.hx O.hb O.hts hc.2.1 ty hc.2.2.1 hc.2.2.2 O.hown O.KK.1 (hG.P H.size) (wl_D hM) hS q0 he hc.1 j (Nat.le_of_ble_eq_true hj) (O.hts _ hq) hs hf hin hdc (hc.2.2.1 j (Nat.le_of_ble_eq_true hj)) hn hfit hlen hd (fun H1 locs1 hP1 hD1 hS1 => ?_)
  refine kk H1 locs1 ls (hG.set (Nat.le_refl _) he hP1 t) hS1 (fun b hb => ?_) hl
  by_cases e : b = a
  · subst e; exact hM b (by rw [hμ]; exact fun z => by cases z)
  · exact hM b (by rw [mup_ne e] at hb; exact hb)
/-! arrays -/
theorem v_iald (O : Ok X Γ A cc nL own F MC MS) {N : Nat} {f : Nat → Int32} {i : Int32} (hμ : μ a = some (.inl (Γ.2.1 0, N, .inl f), t)) (hi : vp_in i N) (hd : decode cc pc = .ok (.iaload, 1)) (kk : V X Γ A nL Q k n μ (pc + 1) lv (.int (f i.toNatClampNeg) :: st)) : V X Γ A nL Q k n μ pc lv (.int i :: .ref a :: st) := by
  intro H locs ls hG hS hM hl
  obtain ⟨q0, he⟩ := wl_at (n := H.size) (hG.lt hμ) hμ
  exact va_iald O.hx O.hb O.KK.1 (hG.P _) q0 0 he rfl hi hd (kk H locs ls hG hS hM hl)
theorem v_zald (O : Ok X Γ A cc nL own F MC MS) {N : Nat} {f : Nat → Int32} {i : Int32} (hμ : μ a = some (.inl (Γ.2.1 1, N, .inl f), t)) (hi : vp_in i N) (hd : decode cc pc = .ok (.baload, 1)) (kk : V X Γ A nL Q k n μ (pc + 1) lv (.int (f i.toNatClampNeg) :: st)) : V X Γ A nL Q k n μ pc lv (.int i :: .ref a :: st) := by
  intro H locs ls hG hS hM hl
  obtain ⟨q0, he⟩ := wl_at (n := H.size) (hG.lt hμ) hμ
  exact va_zald O.hx O.hb O.KK.1 (hG.P _) q0 1 he rfl hi hd (kk H locs ls hG hS hM hl)
theorem v_lald (O : Ok X Γ A cc nL own F MC MS) {N : Nat} {f : Nat → Int64} {i : Int32} (hμ : μ a = some (.inl (Γ.2.1 2, N, .inr (.inl f)), t)) (hi : vp_in i N) (hd : decode cc pc = .ok (.laload, 1)) (kk : V X Γ A nL Q k n μ (pc + 1) lv (.long (f i.toNatClampNeg) :: st)) : V X Γ A nL Q k n μ pc lv (.int i :: .ref a :: st) := by
  intro H locs ls hG hS hM hl
  obtain ⟨q0, he⟩ := wl_at (n := H.size) (hG.lt hμ) hμ
  exact va_lald O.hx O.hb O.KK.1 (hG.P _) q0 2 he rfl hi hd (kk H locs ls hG hS hM hl)
theorem v_aldq (O : Ok X Γ A cc nL own F MC MS) (ti : Nat) {E : String} (hE : (tysAll Γ)[ti]? = some (Γ.2.1 ti, .object E)) {N : Nat} {f : Nat → Option Nat} {i : Int32} (hμ : μ a = some (.inl (Γ.2.1 ti, N, .inr (.inr (.inr (.inr f)))), t)) (hi : vp_in i N) (hd : decode cc pc = .ok (.aaload, 1)) (kk : V X Γ A nL Q k n μ (pc + 1) lv (va_rf (f i.toNatClampNeg) :: st)) : V X Γ A nL Q k n μ pc lv (.int i :: .ref a :: st) := by
  intro H locs ls hG hS hM hl
  obtain ⟨q0, he⟩ := wl_at (n := H.size) (hG.lt hμ) hμ
  exact va_aldq O.hx O.hb O.KK.1 (hG.P _) q0 ti he hE hi hd (kk H locs ls hG hS hM hl)
theorem v_alen (O : Ok X Γ A cc nL own F MC MS) (ti : Nat) {y : FieldType} {x : vp_A} (hE : (tysAll Γ)[ti]? = some (Γ.2.1 ti, y)) {v : Int32} (hμ : μ a = some (.inl (Γ.2.1 ti, x), t)) (hv : Int32.ofNat x.1 = v) (hd : decode cc pc = .ok (.arraylength, 1)) (kk : V X Γ A nL Q k n μ (pc + 1) lv (.int v :: st)) : V X Γ A nL Q k n μ pc lv (.ref a :: st) := by
  intro H locs ls hG hS hM hl
  obtain ⟨q0, he⟩ := wl_at (n := H.size) (hG.lt hμ) hμ
  exact va_alen O.hx O.hb O.KK.1 (hG.P _) q0 ti he hE hv hd (kk H locs ls hG hS hM hl)
theorem mup_A {μ : Mem} {a : Nat} {e x : va_E × Nat} {A : Nat → Prop} (hμ : μ a = some x) (hM : ∀ b, μ b ≠ none → A b) : ∀ b, mup μ a e b ≠ none → A b := by
  intro b hb
  by_cases z : b = a
  · subst z; exact hM b (by rw [hμ]; exact fun z => by cases z)
  · exact hM b (by rw [mup_ne z] at hb; exact hb)
theorem v_iast (O : Ok X Γ A cc nL own F MC MS) {N : Nat} {f : Nat → Int32} {i x : Int32} (hμ : μ a = some (.inl (Γ.2.1 0, N, .inl f), t)) (hi : vp_in i N) (hd : decode cc pc = .ok (.iastore, 1)) (kk : V X Γ A nL Q k n (mup μ a (.inl (Γ.2.1 0, N, .inl (upd f i.toNatClampNeg x)), t)) (pc + 1) lv st) : V X Γ A nL Q k n μ pc lv (.int x :: .int i :: .ref a :: st) := by
  intro H locs ls hG hS hM hl
  obtain ⟨q0, he⟩ := wl_at (n := H.size) (hG.lt hμ) hμ
  exact va_iast O.hx O.hb O.KK.1 (hG.P H.size) (wl_D hM) hS q0 0 he rfl hi hd (fun H1 locs1 hP1 hD1 hS1 => kk H1 locs1 ls (hG.set (Nat.le_refl _) he hP1 t) hS1 (mup_A hμ hM) hl)
theorem v_zast (O : Ok X Γ A cc nL own F MC MS) {N : Nat} {f : Nat → Int32} {i x : Int32} (hμ : μ a = some (.inl (Γ.2.1 1, N, .inl f), t)) (hi : vp_in i N) (hx : vp_nar .boolean x = x) (hd : decode cc pc = .ok (.bastore, 1)) (kk : V X Γ A nL Q k n (mup μ a (.inl (Γ.2.1 1, N, .inl (upd f i.toNatClampNeg x)), t)) (pc + 1) lv st) : V X Γ A nL Q k n μ pc lv (.int x :: .int i :: .ref a :: st) := by
  intro H locs ls hG hS hM hl
  obtain ⟨q0, he⟩ := wl_at (n := H.size) (hG.lt hμ) hμ
  refine va_zast O.hx O.hb O.KK.1 (hG.P H.size) (wl_D hM) hS q0 1 he rfl hi hd (fun H1 locs1 hP1 hD1 hS1 => ?_)
  rw [hx] at hP1
  exact kk H1 locs1 ls (hG.set (Nat.le_refl _) he hP1 t) hS1 (mup_A hμ hM) hl
theorem v_last (O : Ok X Γ A cc nL own F MC MS) {N : Nat} {f : Nat → Int64} {i : Int32} {x : Int64} (hμ : μ a = some (.inl (Γ.2.1 2, N, .inr (.inl f)), t)) (hi : vp_in i N) (hd : decode cc pc = .ok (.lastore, 1)) (kk : V X Γ A nL Q k n (mup μ a (.inl (Γ.2.1 2, N, .inr (.inl (vp_updL f i.toNatClampNeg x))), t)) (pc + 1) lv st) : V X Γ A nL Q k n μ pc lv (.long x :: .int i :: .ref a :: st) := by
  intro H locs ls hG hS hM hl
  obtain ⟨q0, he⟩ := wl_at (n := H.size) (hG.lt hμ) hμ
  exact va_last O.hx O.hb O.KK.1 (hG.P H.size) (wl_D hM) hS q0 2 he rfl hi hd (fun H1 locs1 hP1 hD1 hS1 => kk H1 locs1 ls (hG.set (Nat.le_refl _) he hP1 t) hS1 (mup_A hμ hM) hl)
/-- a reference stored: of an object v of class number ci, named C, that may stand in an array of E -/
theorem v_astq (O : Ok X Γ A cc nL own F MC MS) (ti : Nat) {E : String} (hE : (tysAll Γ)[ti]? = some (Γ.2.1 ti, .object E)) {N : Nat} {f : Nat → Option Nat} {i : Int32} {v : Nat} {r : vw_C} {tv : Nat} (hμ : μ a = some (.inl (Γ.2.1 ti, N, .inr (.inr (.inr (.inr f)))), t)) (hv : μ v = some (.inr (ci, fs), tv)) (hc : vwAll[ci]? = some r) (hg : ∀ comp c0 : ClassId, (xS X).vm.findClass E = some comp → (xS X).vm.findClass r.1 = some c0 → (xS X).vm.assignable c0 comp = true) (hi : vp_in i N) (hd : decode cc pc = .ok (.aastore, 1)) (kk : V X Γ A nL Q k n (mup μ a (.inl (Γ.2.1 ti, N, .inr (.inr (.inr (.inr (va_up f i.toNatClampNeg (some v)))))), t)) (pc + 1) lv st) : V X Γ A nL Q k n μ pc lv (.ref v :: .int i :: .ref a :: st) := by
  intro H locs ls hG hS hM hl
  obtain ⟨q0, he⟩ := wl_at (n := H.size) (hG.lt hμ) hμ
  obtain ⟨q1, he1⟩ := wl_at (n := H.size) (hG.lt hv) hv
  exact va_astqM O.hx O.hb O.KK.1 (hG.P H.size) (wl_D hM) hS q0 ti he hE (va_rAny O.KK.1 (hG.P H.size) he1 hc hg) hi hd (fun H1 locs1 hP1 hD1 hS1 => kk H1 locs1 ls (hG.set (Nat.le_refl _) he hP1 t) hS1 (mup_A hμ hM) hl)
theorem v_astN (O : Ok X Γ A cc nL own F MC MS) (ti : Nat) {E : String} (hE : (tysAll Γ)[ti]? = some (Γ.2.1 ti, .object E)) {N : Nat} {f : Nat → Option Nat} {i : Int32} (hμ : μ a = some (.inl (Γ.2.1 ti, N, .inr (.inr (.inr (.inr f)))), t)) (hi : vp_in i N) (hd : decode cc pc = .ok (.aastore, 1)) (kk : V X Γ A nL Q k n (mup μ a (.inl (Γ.2.1 ti, N, .inr (.inr (.inr (.inr (va_up f i.toNatClampNeg none))))), t)) (pc + 1) lv st) : V X Γ A nL Q k n μ pc lv (.null :: .int i :: .ref a :: st) := by
  intro H locs ls hG hS hM hl
  obtain ⟨q0, he⟩ := wl_at (n := H.size) (hG.lt hμ) hμ
  exact va_astqN O.hx O.hb O.KK.1 (hG.P H.size) (wl_D hM) hS q0 ti he hE hi hd (fun H1 locs1 hP1 hD1 hS1 => kk H1 locs1 ls (hG.set (Nat.le_refl _) he hP1 t) hS1 (mup_A hμ hM) hl)
/-! new things: at a fresh address q, with any tag -/
theorem mup_new {μ : Mem} {q : Nat} {e : va_E × Nat} {A : Nat → Prop} (hq : A q) (hM : ∀ b, μ b ≠ none → A b) : ∀ b, mup μ q e b ≠ none → A b := by
  intro b hb
  by_cases z : b = q
  · subst z; exact hq
  · exact hM b (by rw [mup_ne z] at hb; exact hb)
theorem last_D {A : Nat → Prop} {ws : va_W} {q : Nat} {e : va_E} (h : va_D A (ws ++ [(q, e)])) : A q := h.2 ws.length (q, e) (by simp)
theorem v_new (O : Ok X Γ A cc nL own F MC MS) (tag : Nat) (fs : List Value) (hc : CI ci C T N ty) (hcl : Cond.classLink own idx C ∈ lw_all) (hin : Cond.instantiable C N ∈ lw_all) (hini : Cond.initialized C ∈ lw_all) (hfs : ∀ j, j < N → defaultValue (ty j) = vp_V fs j) (hk : k + 1 ≤ MC) (hn : n + N ≤ MS) (hd : decode cc pc = .ok (.new idx, 3)) (kk : ∀ q, μ q = none → V X Γ A nL Q (k + 1) (n + N) (mup μ q (.inr (ci, fs), tag)) (pc + 3) lv (.ref q :: st)) : V X Γ A nL Q k n μ pc lv st := by
  intro H locs ls hG hS hM hl
  refine va_new O.hx O.hb O.hts hc.2.1 ty hc.2.2.1 O.hown (O.hts _ hcl) (O.hts _ hin) (O.hts _ hini) O.KK.1 (hG.P H.size) (wl_D hM) hS O.hA hc.1 hfs (Nat.le_trans hk O.hR.2.2.1) (Nat.le_trans hn O.hR.2.2.2) hd (fun q H1 hP1 hD1 hS1 => ?_)
  obtain ⟨h1, h2⟩ := hG.push (Nat.le_refl _) hP1 hD1 tag
  exact kk q h2 H1 locs ls h1 hS1 (mup_new (last_D hD1) hM) hl
theorem ra_inj {U : State} {c1 c2 : ClassId} {y : FieldType} (h1 : va_RA U c1 y) (h2 : va_RA U c2 y) : c1 = c2 := by
  cases y
  case object E =>
    obtain ⟨-, -, -, -, -, e1⟩ := h1
    obtain ⟨-, -, -, -, -, e2⟩ := h2
    exact Option.some.inj (e1.symm.trans e2)
  all_goals exact Option.some.inj ((show U.vm.findClass _ = some c1 from h1).symm.trans h2)
theorem ra_last {D : va_G} {cl : List vw_C} {tys : List (ClassId × FieldType)} {cA : ClassId} {y : FieldType} {U : State} (h : va_K D cl (tys ++ [(cA, y)]) U) : va_RA U cA y := (h.2 tys.length (cA, y) (by simp)).2
theorem v_newa (O : Ok X Γ A cc nL own F MC MS) (tag ti : Nat) (atype : ArrayType) {y : FieldType} (hty : newarray.typeOf atype = y) (hE : (tysAll Γ)[ti]? = some (Γ.2.1 ti, y)) (harr : Cond.arrayClass (newarray.typeOf atype) ∈ lw_all) {z : Int32} (N : Nat) (a0 : vp_A) (ha : ∀ cA : ClassId, vp_cell cA a0 = arrV cA N (fun _ => defaultValue y)) (hz : ¬ z < 0) (hN : z.toNatClampNeg = N) (hbytes : N * componentBytes y ≤ 536870912) (hk : k + 1 ≤ MC) (hn : n + N ≤ MS) (hd : decode cc pc = .ok (.newarray atype, 2)) (kk : ∀ q, μ q = none → V X Γ A nL Q (k + 1) (n + N) (mup μ q (.inl (Γ.2.1 ti, a0), tag)) (pc + 2) lv (.ref q :: st)) : V X Γ A nL Q k n μ pc lv (.int z :: st) := by
  intro H locs ls hG hS hM hl
  refine va_newa O.hx O.hb (O.hts _ harr) hty O.KK.1 (hG.P H.size) (wl_D hM) hS O.hA ha hz hN hbytes (Nat.le_trans hk O.hR.2.2.1) (Nat.le_trans hn O.hR.2.2.2) hd (fun q cA H1 hK1 hP1 hD1 hS1 => ?_)
  have e : cA = Γ.2.1 ti := ra_inj (ra_last hK1) (O.KK.1.2 ti _ hE).2
  subst e
  obtain ⟨h1, h2⟩ := hG.push (Nat.le_refl _) hP1 hD1 tag
  exact kk q h2 H1 locs ls h1 hS1 (mup_new (last_D hD1) hM) hl
theorem v_newq (O : Ok X Γ A cc nL own F MC MS) (tag ti : Nat) {E : String} (hE : (tysAll Γ)[ti]? = some (Γ.2.1 ti, .object E)) (hcl : Cond.classLink own idx E ∈ lw_all) (hov : E ∈ aoAll) {z : Int32} (N : Nat) (hz : ¬ z < 0) (hN : z.toNatClampNeg = N) (hbytes : N * 4 ≤ 536870912) (hk : k + 1 ≤ MC) (hn : n + N ≤ MS) (hd : decode cc pc = .ok (.anewarray idx, 3)) (kk : ∀ q, μ q = none → V X Γ A nL Q (k + 1) (n + N) (mup μ q (.inl (Γ.2.1 ti, N, .inr (.inr (.inr (.inr (fun _ => none))))), tag)) (pc + 3) lv (.ref q :: st)) : V X Γ A nL Q k n μ pc lv (.int z :: st) := by
  intro H locs ls hG hS hM hl
  refine va_newq O.hx O.hb O.hown (O.hts _ hcl) (O.KK.2.1.2.2.1 _ hov) O.KK.1 (hG.P H.size) (wl_D hM) hS O.hA hz hN hbytes (Nat.le_trans hk O.hR.2.2.1) (Nat.le_trans hn O.hR.2.2.2) hd (fun q cA H1 hK1 hP1 hD1 hS1 => ?_)
  have e : cA = Γ.2.1 ti := ra_inj (ra_last hK1) (O.KK.1.2 ti _ hE).2
  subst e
  obtain ⟨h1, h2⟩ := hG.push (Nat.le_refl _) hP1 hD1 tag
  exact kk q h2 H1 locs ls h1 hS1 (mup_new (last_D hD1) hM) hl
theorem v_objInit (O : Ok X Γ A cc nL own F MC MS) (hq : Cond.methodLink own idx Lib.objectInit ∈ lw_all) (hi : Cond.instanceMethod Lib.objectInit ∈ lw_all) (hcd : Cond.code Lib.objectInit ⟨#[0xb1]⟩ 1 none ∈ lw_all) (hF : Nat.blt 0 F = true) (hst : (st.map fun v => v.category).sum ≤ 8) (hd : decode cc pc = .ok (.invokespecial idx, 3)) (kk : V X Γ A nL Q k n μ (pc + 3) lv st) : V X Γ A nL Q k n μ pc lv (.ref a :: st) := by
  intro H locs ls hG hS hM hl
  have hF : 1 ≤ F := Nat.le_of_ble_eq_true hF
  have h1 := O.hR.1
  have h2 := O.hR.2.1
  refine W.objInit O.hx O.hb O.hown (O.hts _ hq) (O.hts _ hi) (O.hts _ hcd) rfl (hl.1.trans O.hml.symm) rfl hd (by omega) ?_ (kk H locs ls hG hS hM hl)
  show 2 * 0 + _ + 12 ≤ _
  omega
theorem v_widen (k' n' : Nat) (h1 : k ≤ k') (h2 : n ≤ n') (kk : V X Γ A nL Q k' n' μ pc lv st) : V X Γ A nL Q k n μ pc lv st := fun H locs ls hG hS hM hl => W.widen h1 h2 (kk H locs ls hG hS hM hl)
end VR2
/-! contracts -/
def gA (μ : Mem) (sz : Nat) : Nat → Prop := fun q => μ q ≠ none ∨ sz ≤ q
def PreG (Γ : Gm) (μ : Mem) (sz : Nat) (av : List Value) : Array Value → State → Prop := va_Pc av (fun U => U.heap.size = sz ∧ gG Γ.1 vwAll μ U.heap ∧ KK Γ (gA μ sz) U U.heap)
def PostG (Γ : Gm) (μ : Mem) (sz : Nat) (Po : Option Value → Mem → Prop) : Array Value → State → Outcome → State → Prop := fun _ st oc t => (∃ (v : Option Value) (μ' : Mem), oc = .returned v ∧ Po v μ' ∧ gG Γ.1 vwAll μ' t.heap ∧ ∀ q, μ' q ≠ none → gA μ sz q) ∧ va_F (gA μ sz) st t
/-- a contract: method y (code cc, nL locals, answer ret) at launch l, for args av and memory μ: it returns, with Po of its answer and its memory; frames below level f; at most mc cells of ms slots -/
def MetV (l : Launch) (Γ : Gm) (y : MethodName) (cc : ByteArray) (nL : Nat) (ret : Option FieldType) (f mc ms : Nat) (av : List Value) (μ : Mem) (Po : Option Value → Mem → Prop) : Prop :=
  ∀ sz : Nat, Met l y (ws_ y cc nL ret) { frames := f, cells := mc, slots := ms, locals := 64 * f } (PreG Γ μ sz av) (PostG Γ μ sz Po) mc ms (gA μ sz)
def QV (X : Cx) (Γ : Gm) (μ : Mem) (sz : Nat) (Po : Option Value → Mem → Prop) (mc ms : Nat) : State → Prop := MQ (xB X) (PostG Γ μ sz Po) (xA X) (xS X) mc ms (gA μ sz)
theorem MetV.of {l : Launch} {Γ : Gm} {y : MethodName} {cc : ByteArray} {nL : Nat} {ret : Option FieldType} {f mc ms : Nat} {av : List Value} {μ : Mem} {Po : Option Value → Mem → Prop} (hy : plainName y.cls = true) (hlen : Nat.ble (lg_sl av).length nL = true)
    (body : ∀ (X : Cx) (sz : Nat), xL X = l → (xT X).sig.returnType = ret → (xT X).name = y.name → Ok X Γ (gA μ sz) cc nL y.cls f mc ms → V X Γ (gA μ sz) nL (QV X Γ μ sz Po mc ms) 0 0 μ 0 (lv_args 0 av) []) : MetV l Γ y cc nL ret f mc ms av μ Po := by
  intro sz
  refine Met.ofW (cc := cc) (maxL := nL) (ret := ret) hy rfl ?_
  intro p e s m args below meth c s₁ B hml hv
  obtain ⟨rfl, hsz, hG, hK⟩ := hv
  have hts := atoms_spec (ws := ws_ y cc nL ret) B.pre
  have hts : ∀ w ∈ lw_all, w.before _ s = true := fun w h => hts w (List.mem_cons_of_mem _ h)
  rw [lg_entry_eq]
  have hl := lv_entry av (n := nL) (Nat.le_of_ble_eq_true hlen)
  generalize (lg_sl av ++ List.replicate (nL - (lg_sl av).length) Slot.unset).toArray = ls at hl ⊢
  subst hsz
  exact body (p, l, e, _, s, m, av.toArray, below, meth, c) s.heap.size rfl B.returns (name_of_methodNamed B.named B.method).1 ⟨B.exec, B.bytes, hml, findClass_of_methodNamed B.named, hts, hK, fun q h => Or.inr h, ⟨Nat.le_refl _, Nat.le_refl _, Nat.le_refl _, Nat.le_refl _⟩, B.notSynchronized⟩ s.heap [] ls hG va_S.rf (fun a h => Or.inl h) hl
/-! ends -/
section VEND
variable {X : Cx} {Γ : Gm} {cc : ByteArray} {nL : Nat} {own : String} {F MC MS : Nat} {k n : Nat} {μ μ0 : Mem} {sz : Nat} {pc : Nat} {lv : List (Nat × Value)} {Po : Option Value → Mem → Prop} {mc ms : Nat}
theorem v_post {t : State} {H : Heap} {locs : List Loc} {v : Option Value} (hp : Po v μ) (hG : gG Γ.1 vwAll μ H) (hS : va_S (gA μ0 sz) (xS X).heap H locs) (hM : ∀ a, μ a ≠ none → gA μ0 sz a) (ht : t.heap = H) : PostG Γ μ0 sz Po (xA X) (xS X) (.returned v) t :=
  ⟨⟨v, μ, rfl, hp, by rw [ht]; exact hG, hM⟩, hS.F ht⟩
theorem v_iret (O : Ok X Γ (gA μ0 sz) cc nL own F MC MS) (hr : (xT X).sig.returnType = some .int) (hk : k ≤ mc) (hn : n ≤ ms) (hd : decode cc pc = .ok (.ireturn, 1)) {x : Int32} (hp : Po (some (.int x)) μ) : V X Γ (gA μ0 sz) nL (QV X Γ μ0 sz Po mc ms) k n μ pc lv [.int x] := fun H locs ls hG hS hM hl =>
  W.widen hk hn (W.iret O.hx O.hb hr (fun t ht hW => v_post hp hG hS hM ht) hS.2.2 hd O.hlk)
theorem v_zret (O : Ok X Γ (gA μ0 sz) cc nL own F MC MS) (hr : (xT X).sig.returnType = some .boolean) (hk : k ≤ mc) (hn : n ≤ ms) (hd : decode cc pc = .ok (.ireturn, 1)) {x : Int32} (hx : narrow .boolean (.int x) = .int x) (hp : Po (some (.int x)) μ) : V X Γ (gA μ0 sz) nL (QV X Γ μ0 sz Po mc ms) k n μ pc lv [.int x] := fun H locs ls hG hS hM hl =>
  W.widen hk hn (W.zret O.hx O.hb hr hx (fun t ht hW => v_post hp hG hS hM ht) hS.2.2 hd O.hlk)
theorem v_vret (O : Ok X Γ (gA μ0 sz) cc nL own F MC MS) (hr : (xT X).sig.returnType = none) (hk : k ≤ mc) (hn : n ≤ ms) (hd : decode cc pc = .ok (.return_, 1)) (hp : Po none μ) : V X Γ (gA μ0 sz) nL (QV X Γ μ0 sz Po mc ms) k n μ pc lv [] := fun H locs ls hG hS hM hl =>
  W.widen hk hn (W.vret O.hx O.hb hr (fun t ht hW => v_post hp hG hS hM ht) hS.2.2 hd O.hlk)
theorem v_aret (O : Ok X Γ (gA μ0 sz) cc nL own F MC MS) {rt : FieldType} (hr : (xT X).sig.returnType = some rt) (hrt : (∃ n, rt = .object n) ∨ ∃ t, rt = .array t) (hk : k ≤ mc) (hn : n ≤ ms) (hd : decode cc pc = .ok (.areturn, 1)) {v : Value} (hv : v = .null ∨ ∃ a, v = .ref a) (hp : Po (some v) μ) : V X Γ (gA μ0 sz) nL (QV X Γ μ0 sz Po mc ms) k n μ pc lv [v] := fun H locs ls hG hS hM hl =>
  W.widen hk hn (W.aret O.hx O.hb hr hrt hv (fun t ht hW => v_post hp hG hS hM ht) hS.2.2 hd O.hlk)
end VEND
/-! calls -/
theorem KK.calling {Γ : Gm} {A : Nat → Prop} {U : State} {H : Heap} {g : JFrame} {mk : MethodId} {a : Array Value} (h : KK Γ A U H) : KK Γ A (U.calling g mk a) H :=
  ⟨va_K.moved (u := U) (U := U.calling g mk a) (Vm.Alike.refl U.vm) h.1, ⟨fun w h1 h2 => va_Nw.same (nwk_on h2) (u := U) (U := U.calling g mk a) rfl (h.2.1.1 w h1 h2), fun q hq => va_Fw.moved ((show ∀ q ∈ fwAll, q.2.1.cls ≠ "java/lang/invoke/MethodHandle" ∧ q.2.1.cls ≠ "java/lang/invoke/VarHandle" by decide +kernel) q hq) (u := U) (U := U.calling g mk a) (Vm.Alike.refl U.vm) (h.2.1.2.1 q hq), fun E hE => va_AO.moved (u := U) (U := U.calling g mk a) (Vm.Alike.refl U.vm) (h.2.1.2.2.1 E hE), fun q hq => va_Nc.moved (u := U) (U := U.calling g mk a) (Vm.Alike.refl U.vm) (h.2.1.2.2.2 q hq)⟩, va_Mi.moved (u := U) (U := U.calling g mk a) (Vm.Alike.refl U.vm) h.2.2.1, SZ.moved (u := U) (U := U.calling g mk a) (Vm.Alike.refl U.vm) h.2.2.2⟩
theorem PreG.blind {Γ : Gm} {μ : Mem} {sz : Nat} {av : List Value} : FrameBlind (PreG Γ μ sz av) := fun _ _ _ _ h => ⟨h.1, h.2.1, h.2.2.1, h.2.2.2.calling⟩
/-- a memory with a callee's part replaced: μc was handed over, μ' came back -/
def mjoin (μ μc μ' : Mem) : Mem := fun q => match μ' q with
  | some e => some e
  | none => match μc q with
    | some _ => none
    | none => μ q
section VCALL
variable {X : Cx} {Γ : Gm} {A : Nat → Prop} {cc : ByteArray} {nL : Nat} {own : String} {F MC MS : Nat} {Q : State → Prop} {k n : Nat} {μ : Mem} {pc : Nat} {lv : List (Nat × Value)} {st rest : List Value}
variable {y : MethodName} {bytes : ByteArray} {maxL : Nat} {ret : Option FieldType} {f mc ms nA : Nat} {As : List Value} {b : Nat} {μc : Mem} {Po : Option Value → Mem → Prop} {idx : Nat}
theorem v_sub {H : Heap} (hG : gG Γ.1 vwAll μ H) (hc : ∀ q e, μc q = some e → μ q = some e) : gG Γ.1 vwAll μc H := fun a e h => hG a e (hc a e h)
theorem v_preS (O : Ok X Γ A cc nL own F MC MS) {H : Heap} {locs : List Loc} (hG : gG Γ.1 vwAll μ H) (hS : va_S A (xS X).heap H locs) (hM : ∀ a, μ a ≠ none → A a) (hc : ∀ q e, μc q = some e → μ q = some e) : PreS (xS X) H (PreG Γ μc H.size As) As := by
  refine ⟨PreG.blind, fun U hU hW => ⟨rfl, by rw [hU], by rw [hU]; exact v_sub hG hc, O.KK.down hS hU hW (fun q h => ?_)⟩⟩
  rcases h with h | h
  · cases hq : μc q with
    | none => exact absurd hq h
    | some e => exact hM q (by rw [hc q e hq]; exact fun z => by cases z)
  · exact O.hA q (Nat.le_trans hS.1 h)
/-- what stands behind a call -/
theorem v_back (O : Ok X Γ A cc nL own F MC MS) {H : Heap} {locs : List Loc} {ls : Array Slot} (hG : gG Γ.1 vwAll μ H) (hS : va_S A (xS X).heap H locs) (hM : ∀ a, μ a ≠ none → A a) (hl : lv_has ls nL lv) (hc : ∀ q e, μc q = some e → μ q = some e) {g2 : Option Value → JFrame} {d : Nat} (hg2 : ∀ v, g2 v = F0 (xM X) (pc + d) ls (v.toList ++ rest)) {T : State} {v : Option Value} {st₀ t T' : State} {L : List Loc} (h0 : st₀.heap = H) (X' : Stand (xP X) (xL X) (xE X) (xR X) (xS X) (xM X) (xA X) (xB X) (xT X) (xC X) T' (locs ++ L) (k + mc) (n + ms)) (hL : ∀ q ∈ L, gA μc H.size q.base) (e1 : T'.heap = t.heap) {aa : Array Value} (hq : PostG Γ μc H.size Po aa st₀ (.returned v) t)
    (kk : ∀ v μ', Po v μ' → V X Γ A nL Q (k + mc) (n + ms) (mjoin μ μc μ') (pc + d) lv (v.toList ++ rest)) : ∃ t2, Steps (xP X).tables (xE X) (xB X) (T'.setTop (g2 v)) t2 ∧ Q t2 := by
  obtain ⟨⟨v', μ', hv, hp, hG', hM'⟩, hz, hk⟩ := hq
  cases hv
  rw [h0] at hz hk
  have hAc : ∀ q, gA μc H.size q → A q := by
    intro q h
    rcases h with h | h
    · cases hq : μc q with
      | none => exact absurd hq h
      | some e => exact hM q (by rw [hc q e hq]; exact fun z => by cases z)
    · exact O.hA q (Nat.le_trans hS.1 h)
  rw [hg2]
  refine kk v μ' hp T'.heap (locs ++ L) ls ?_ ?_ ?_ hl T' rfl X'
  · intro q e he
    rw [e1]
    unfold mjoin at he
    cases h1 : μ' q with
    | some e' => rw [h1] at he; cases he; exact hG' q e h1
    | none =>
      rw [h1] at he
      cases h2 : μc q with
      | some e' => rw [h2] at he; cases he
      | none =>
        rw [h2] at he
        have h3 := hG q e he
        refine h3.kept (hk q h3.lt (fun z => ?_))
        rcases z with z | z
        · exact z h2
        · exact absurd h3.lt (Nat.not_lt.mpr z)
  · refine ⟨Nat.le_trans hS.1 (by rw [e1]; exact hz), fun q h1 h2 => ?_, fun q hq => ?_⟩
    · rw [e1, hk q (Nat.lt_of_lt_of_le h1 hS.1) (fun z => h2 (hAc q z))]
      exact hS.2.1 q h1 h2
    · rcases List.mem_append.mp hq with h | h
      · exact hS.2.2 q h
      · exact hAc _ (hL q h)
  · intro q h
    unfold mjoin at h
    cases h1 : μ' q with
    | some e' => exact hAc q (hM' q (by rw [h1]; exact fun z => by cases z))
    | none =>
      rw [h1] at h
      cases h2 : μc q with
      | some e' => rw [h2] at h; exact absurd rfl h
      | none => rw [h2] at h; exact hM q h
theorem mjoin_self {μ μ' : Mem} : mjoin μ μ μ' = μ' := by
  funext q
  unfold mjoin
  cases h1 : μ' q with
  | some e => rfl
  | none =>
    cases h2 : μ q with
    | some e => rfl
    | none => rfl
theorem hRof (O : Ok X Γ A cc nL own F MC MS) (hf : Nat.blt f F = true) (hm : Nat.ble maxL 45 = true) : ({ frames := f, cells := mc, slots := ms, locals := 64 * f } : Room).frames + 1 ≤ (xR X).frames ∧ 8 + (maxL + 11) + ({ frames := f, cells := mc, slots := ms, locals := 64 * f } : Room).locals ≤ (xR X).locals := by
  have h1 : f + 1 ≤ F := Nat.le_of_ble_eq_true hf
  have h2 : maxL ≤ 45 := Nat.le_of_ble_eq_true hm
  have h3 := O.hR.1
  have h4 := O.hR.2.1
  constructor
  · show f + 1 ≤ _; omega
  · show 8 + (maxL + 11) + 64 * f ≤ _; omega
/-- invokevirtual, with a part of the memory -/
theorem v_callVp (O : Ok X Γ A cc nL own F MC MS) (hM : MetV (xL X) Γ y bytes maxL ret f mc ms (.ref b :: As) μc Po) (hc : ∀ q e, μc q = some e → μ q = some e) {ci tg : Nat} {fs : List Value} {C : String} {TT : u_T} {NN : Nat} (hr : μ b = some (.inr (ci, fs), tg)) (hci : vwAll[ci]? = some (C, TT, NN)) (h1 : Cond.methodLink own idx y ∈ lw_all) (h2 : Cond.instanceMethod y ∈ lw_all) (h3 : Cond.selects C y y ∈ lw_all) (h4 : Cond.initialized C ∈ lw_all) (h5 : Cond.code y bytes maxL ret ∈ lw_all) (hd0 : y.cls = C ∧ y.cls ≠ "java/lang/invoke/MethodHandle" ∧ y.cls ≠ "java/lang/invoke/VarHandle" ∧ (parseMethodDescriptor y.desc).map (fun d => d.parameters.length) = some nA) (hA : As.length = nA) (hf : Nat.blt f F = true) (hm : Nat.ble maxL 45 = true) (hst : st = As.reverse ++ .ref b :: rest) (hcat : (rest.map fun v => v.category).sum ≤ 8) (hk : k + mc ≤ MC) (hn : n + ms ≤ MS) (hd : decode cc pc = .ok (.invokevirtual idx, 3))
    (kk : ∀ v μ', Po v μ' → V X Γ A nL Q (k + mc) (n + ms) (mjoin μ μc μ') (pc + 3) lv (v.toList ++ rest)) : V X Γ A nL Q k n μ pc lv st := by
  intro H locs ls hG hS hMm hl T hT X0
  obtain ⟨q0, he⟩ := wl_at (n := H.size) (hG.lt hr) hr
  have hpre := v_preS (As := .ref b :: As) O hG hS hMm hc
  subst hst
  obtain ⟨v, st₀, t, T', L, h0, X', hL, e1, e2, hq, st2⟩ := va_runV (g := F0 (xM X) pc ls (As.reverse ++ .ref b :: rest)) (rest := rest) ⟨O.hx, O.hb, O.hml, O.hown, O.hts⟩ (hM H.size) (cwV nA O.hts (lw_V h1 h2 h3 h4 h5) rfl rfl rfl hd0 (hRof O hf hm)) ⟨hpre.1, va_recv O.KK.1 (hG.P _) hci he, hpre.2⟩ rfl hA hl.1 rfl (lv_room hcat) hd ⟨Nat.le_trans hk O.hR.2.2.1, Nat.le_trans hn O.hR.2.2.2⟩ T hT X0
  obtain ⟨t2, a1, b1⟩ := v_back (g2 := fun v => F0 (xM X) (pc + 3) ls (v.toList ++ rest)) (d := 3) (T := T) O hG hS hMm hl hc (fun v => rfl) h0 X' hL e1 hq kk
  exact ⟨t2, st2 t2 a1, b1⟩
theorem v_callV (O : Ok X Γ A cc nL own F MC MS) (hM : MetV (xL X) Γ y bytes maxL ret f mc ms (.ref b :: As) μ Po) {ci tg : Nat} {fs : List Value} {C : String} {TT : u_T} {NN : Nat} (hr : μ b = some (.inr (ci, fs), tg)) (hci : vwAll[ci]? = some (C, TT, NN)) (h1 : Cond.methodLink own idx y ∈ lw_all) (h2 : Cond.instanceMethod y ∈ lw_all) (h3 : Cond.selects C y y ∈ lw_all) (h4 : Cond.initialized C ∈ lw_all) (h5 : Cond.code y bytes maxL ret ∈ lw_all) (hd0 : y.cls = C ∧ y.cls ≠ "java/lang/invoke/MethodHandle" ∧ y.cls ≠ "java/lang/invoke/VarHandle" ∧ (parseMethodDescriptor y.desc).map (fun d => d.parameters.length) = some nA) (hA : As.length = nA) (hf : Nat.blt f F = true) (hm : Nat.ble maxL 45 = true) (hst : st = As.reverse ++ .ref b :: rest) (hcat : (rest.map fun v => v.category).sum ≤ 8) (hk : k + mc ≤ MC) (hn : n + ms ≤ MS) (hd : decode cc pc = .ok (.invokevirtual idx, 3))
    (kk : ∀ v μ', Po v μ' → V X Γ A nL Q (k + mc) (n + ms) μ' (pc + 3) lv (v.toList ++ rest)) : V X Γ A nL Q k n μ pc lv st :=
  v_callVp O hM (fun _ _ h => h) hr hci h1 h2 h3 h4 h5 hd0 hA hf hm hst hcat hk hn hd (fun v μ' h => by rw [mjoin_self]; exact kk v μ' h)
theorem v_callSp (O : Ok X Γ A cc nL own F MC MS) (hM : MetV (xL X) Γ y bytes maxL ret f mc ms As μc Po) (hc : ∀ q e, μc q = some e → μ q = some e) (h1 : Cond.methodLink own idx y ∈ lw_all) (h2 : Cond.static y ∈ lw_all) (h3 : Cond.initialized y.cls ∈ lw_all) (h5 : Cond.code y bytes maxL ret ∈ lw_all) (hd0 : y.cls ≠ "java/lang/invoke/MethodHandle" ∧ y.cls ≠ "java/lang/invoke/VarHandle" ∧ (parseMethodDescriptor y.desc).map (fun d => d.parameters.length) = some nA) (hA : As.length = nA) (hf : Nat.blt f F = true) (hm : Nat.ble maxL 45 = true) (hst : st = As.reverse ++ rest) (hcat : (rest.map fun v => v.category).sum ≤ 8) (hk : k + mc ≤ MC) (hn : n + ms ≤ MS) (hd : decode cc pc = .ok (.invokestatic idx, 3))
    (kk : ∀ v μ', Po v μ' → V X Γ A nL Q (k + mc) (n + ms) (mjoin μ μc μ') (pc + 3) lv (v.toList ++ rest)) : V X Γ A nL Q k n μ pc lv st := by
  intro H locs ls hG hS hMm hl T hT X0
  have hpre := v_preS (As := As) O hG hS hMm hc
  subst hst
  obtain ⟨v, st₀, t, T', L, h0, X', hL, e1, e2, hq, st2⟩ := va_runS (g := F0 (xM X) pc ls (As.reverse ++ rest)) (rest := rest) ⟨O.hx, O.hb, O.hml, O.hown, O.hts⟩ (hM H.size) (va_cwS nA O.hts (lw_S h1 h2 h3 h5) rfl rfl rfl hd0 (hRof O hf hm)) hpre rfl hA hl.1 rfl (lv_room hcat) hd ⟨Nat.le_trans hk O.hR.2.2.1, Nat.le_trans hn O.hR.2.2.2⟩ T hT X0
  obtain ⟨t2, a1, b1⟩ := v_back (g2 := fun v => F0 (xM X) (pc + 3) ls (v.toList ++ rest)) (d := 3) (T := T) O hG hS hMm hl hc (fun v => rfl) h0 X' hL e1 hq kk
  exact ⟨t2, st2 t2 a1, b1⟩
theorem v_callS (O : Ok X Γ A cc nL own F MC MS) (hM : MetV (xL X) Γ y bytes maxL ret f mc ms As μ Po) (h1 : Cond.methodLink own idx y ∈ lw_all) (h2 : Cond.static y ∈ lw_all) (h3 : Cond.initialized y.cls ∈ lw_all) (h5 : Cond.code y bytes maxL ret ∈ lw_all) (hd0 : y.cls ≠ "java/lang/invoke/MethodHandle" ∧ y.cls ≠ "java/lang/invoke/VarHandle" ∧ (parseMethodDescriptor y.desc).map (fun d => d.parameters.length) = some nA) (hA : As.length = nA) (hf : Nat.blt f F = true) (hm : Nat.ble maxL 45 = true) (hst : st = As.reverse ++ rest) (hcat : (rest.map fun v => v.category).sum ≤ 8) (hk : k + mc ≤ MC) (hn : n + ms ≤ MS) (hd : decode cc pc = .ok (.invokestatic idx, 3))
    (kk : ∀ v μ', Po v μ' → V X Γ A nL Q (k + mc) (n + ms) μ' (pc + 3) lv (v.toList ++ rest)) : V X Γ A nL Q k n μ pc lv st :=
  v_callSp O hM (fun _ _ h => h) h1 h2 h3 h5 hd0 hA hf hm hst hcat hk hn hd (fun v μ' h => by rw [mjoin_self]; exact kk v μ' h)
end VCALL
/-! answers by kind -/
def PI (P : Int32 → Mem → Prop) : Option Value → Mem → Prop := fun v μ => ∃ x : Int32, v = some (.int x) ∧ P x μ
def PV (P : Mem → Prop) : Option Value → Mem → Prop := fun v μ => v = none ∧ P μ
def PQ (P : Option Nat → Mem → Prop) : Option Value → Mem → Prop := fun v μ => ∃ r : Option Nat, v = some (va_rf r) ∧ P r μ
def PR (P : Nat → Mem → Prop) : Option Value → Mem → Prop := fun v μ => ∃ r : Nat, v = some (.ref r) ∧ P r μ
section VCALL2
variable {X : Cx} {Γ : Gm} {A : Nat → Prop} {cc : ByteArray} {nL : Nat} {own : String} {F MC MS : Nat} {Q : State → Prop} {k n : Nat} {μ : Mem} {pc : Nat} {lv lv' : List (Nat × Value)} {st rest : List Value}
variable {y : MethodName} {bytes : ByteArray} {maxL : Nat} {ret : Option FieldType} {f mc ms nA : Nat} {As : List Value} {b : Nat} {idx : Nat}
theorem v_locs (ks : List Nat) (h : lv_pick lv ks = lv') (kk : V X Γ A nL Q k n μ pc lv' st) : V X Γ A nL Q k n μ pc lv st := fun H locs ls hG hS hM hl => kk H locs ls hG hS hM (lv_sub hl ks h)
theorem v_callVi0 {P : Int32 → Mem → Prop} (O : Ok X Γ A cc nL own F MC MS) (hM : MetV (xL X) Γ y bytes maxL ret f 0 0 (.ref b :: As) μ (PI P)) {ci tg : Nat} {fs : List Value} {C : String} {TT : u_T} {NN : Nat} (hr : μ b = some (.inr (ci, fs), tg)) (hci : vwAll[ci]? = some (C, TT, NN)) (h1 : Cond.methodLink own idx y ∈ lw_all) (h2 : Cond.instanceMethod y ∈ lw_all) (h3 : Cond.selects C y y ∈ lw_all) (h4 : Cond.initialized C ∈ lw_all) (h5 : Cond.code y bytes maxL ret ∈ lw_all) (hd0 : y.cls = C ∧ y.cls ≠ "java/lang/invoke/MethodHandle" ∧ y.cls ≠ "java/lang/invoke/VarHandle" ∧ (parseMethodDescriptor y.desc).map (fun d => d.parameters.length) = some nA) (hA : As.length = nA) (hf : Nat.blt f F = true) (hm : Nat.ble maxL 45 = true) (hst : st = As.reverse ++ .ref b :: rest) (hcat : (rest.map fun v => v.category).sum ≤ 8) (hk : k ≤ MC) (hn : n ≤ MS) (hd : decode cc pc = .ok (.invokevirtual idx, 3))
    (kk : ∀ x μ', P x μ' → V X Γ A nL Q k n μ' (pc + 3) lv (.int x :: rest)) : V X Γ A nL Q k n μ pc lv st :=
  v_callV O hM hr hci h1 h2 h3 h4 h5 hd0 hA hf hm hst hcat hk hn hd (fun v μ' h => by obtain ⟨x, rfl, h⟩ := h; exact kk x μ' h)
theorem v_callVv0 {P : Mem → Prop} (O : Ok X Γ A cc nL own F MC MS) (hM : MetV (xL X) Γ y bytes maxL ret f 0 0 (.ref b :: As) μ (PV P)) {ci tg : Nat} {fs : List Value} {C : String} {TT : u_T} {NN : Nat} (hr : μ b = some (.inr (ci, fs), tg)) (hci : vwAll[ci]? = some (C, TT, NN)) (h1 : Cond.methodLink own idx y ∈ lw_all) (h2 : Cond.instanceMethod y ∈ lw_all) (h3 : Cond.selects C y y ∈ lw_all) (h4 : Cond.initialized C ∈ lw_all) (h5 : Cond.code y bytes maxL ret ∈ lw_all) (hd0 : y.cls = C ∧ y.cls ≠ "java/lang/invoke/MethodHandle" ∧ y.cls ≠ "java/lang/invoke/VarHandle" ∧ (parseMethodDescriptor y.desc).map (fun d => d.parameters.length) = some nA) (hA : As.length = nA) (hf : Nat.blt f F = true) (hm : Nat.ble maxL 45 = true) (hst : st = As.reverse ++ .ref b :: rest) (hcat : (rest.map fun v => v.category).sum ≤ 8) (hk : k ≤ MC) (hn : n ≤ MS) (hd : decode cc pc = .ok (.invokevirtual idx, 3))
    (kk : ∀ μ', P μ' → V X Γ A nL Q k n μ' (pc + 3) lv rest) : V X Γ A nL Q k n μ pc lv st :=
  v_callV O hM hr hci h1 h2 h3 h4 h5 hd0 hA hf hm hst hcat hk hn hd (fun v μ' h => by obtain ⟨rfl, h⟩ := h; exact kk μ' h)
theorem v_callSi0 {P : Int32 → Mem → Prop} (O : Ok X Γ A cc nL own F MC MS) (hM : MetV (xL X) Γ y bytes maxL ret f 0 0 As μ (PI P)) (h1 : Cond.methodLink own idx y ∈ lw_all) (h2 : Cond.static y ∈ lw_all) (h3 : Cond.initialized y.cls ∈ lw_all) (h5 : Cond.code y bytes maxL ret ∈ lw_all) (hd0 : y.cls ≠ "java/lang/invoke/MethodHandle" ∧ y.cls ≠ "java/lang/invoke/VarHandle" ∧ (parseMethodDescriptor y.desc).map (fun d => d.parameters.length) = some nA) (hA : As.length = nA) (hf : Nat.blt f F = true) (hm : Nat.ble maxL 45 = true) (hst : st = As.reverse ++ rest) (hcat : (rest.map fun v => v.category).sum ≤ 8) (hk : k ≤ MC) (hn : n ≤ MS) (hd : decode cc pc = .ok (.invokestatic idx, 3))
    (kk : ∀ x μ', P x μ' → V X Γ A nL Q k n μ' (pc + 3) lv (.int x :: rest)) : V X Γ A nL Q k n μ pc lv st :=
  v_callS O hM h1 h2 h3 h5 hd0 hA hf hm hst hcat hk hn hd (fun v μ' h => by obtain ⟨x, rfl, h⟩ := h; exact kk x μ' h)
end VCALL2
