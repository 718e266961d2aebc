/-! HashMap: put (printed by gen/hm3.py) -/
set_option maxRecDepth 100000
set_option maxHeartbeats 4000000 in
theorem hm_afterNodeAccess (l : Launch) (Γ : Gm) {a : Nat} {p : Nat} {μ0 : Mem} : MetV l Γ yJ23_afterNodeAccess cJ23_afterNodeAccess 2 none 1 0 0 [.ref a, .ref p] μ0 (PV (fun μ1 => μ0 = μ1)) := by
  refine MetV.of (by decide +kernel) rfl ?_
  intro X sz hl hr hnm O
  subst hl
  show V X Γ _ 2 _ 0 0 μ0 0 [(0, .ref a), (1, .ref p)] []
  exact v_vret (pc := 0) O hr (by omega) (by omega) dJ23_afterNodeAccess_0 ⟨rfl, rfl⟩
set_option maxHeartbeats 4000000 in
theorem hm_afterNodeInsertion (l : Launch) (Γ : Gm) {a : Nat} {x : Int32} {μ0 : Mem} : MetV l Γ yJ23_afterNodeInsertion cJ23_afterNodeInsertion 2 none 1 0 0 [.ref a, .int x] μ0 (PV (fun μ1 => μ0 = μ1)) := by
  refine MetV.of (by decide +kernel) rfl ?_
  intro X sz hl hr hnm O
  subst hl
  show V X Γ _ 2 _ 0 0 μ0 0 [(0, .ref a), (1, .int x)] []
  exact v_vret (pc := 0) O hr (by omega) (by omega) dJ23_afterNodeInsertion_0 ⟨rfl, rfl⟩
theorem thr_cap {n N : Nat} (h : thrOf N < n) (h2 : n ≤ 32) : N ≤ 43 := by unfold thrOf at h; omega
theorem thr_grow {S S3 : HS} {q : Nat} {hd nx : Nat → Option Nat} (hc : cntK S3 = cntK S + 1) (h : cntK S ≤ thrOf (HS.cap S3) ∧ 2 ≤ HS.cap S3) : cntK (spS S3 q hd nx) ≤ thrOf (HS.cap (spS S3 q hd nx)) := by
  show cntK S3 ≤ thrOf (2 * HS.cap S3)
  rw [hc]
  obtain ⟨h1, h2⟩ := h
  unfold thrOf at *
  omega
set_option maxHeartbeats 4000000 in
theorem hm_put259 {X : Cx} {Γ : Gm} {μ0 μ : Mem} {sz_ : Nat} {a c κ s v : Nat} {ks es : Value} {md : Int32} {S : HS} {S3 : HS} (h_a : μ a = some (.inr (11, [ks, .null, .ref (HS.tb S3), es, .int (nI (cntK S)), .int md, .int (nI (thrOf (HS.cap S3))), .float LF]), c)) (hN3 : HN Γ c S3 μ) (hP3 : HPs S3) (hcnt : cntK S3 = cntK S + 1) (hPut : PutP S S3 κ v) (hc0 : cntK S ≤ thrOf (HS.cap S3)) (hU : Upd c μ0 μ) (O : Ok X Γ (gA μ0 sz_) cJ23_putVal 13 yJ23_putVal.cls 4 3 160) (hr : (xT X).sig.returnType = some (.object "java/lang/Object")) : V X Γ (gA μ0 sz_) 13 (QV X Γ μ0 sz_ (PQ (fun r μ1 => ∃ (S' : HS) (md' : Int32), μ1 a = some (.inr (11, [ks, .null, .ref (HS.tb S'), es, .int (nI (cntK S')), .int md', .int (nI (thrOf (HS.cap S'))), .float LF]), c) ∧ HN Γ c S' μ1 ∧ HPs S' ∧ cntK S' ≤ thrOf (HS.cap S') ∧ PutP S S' κ v ∧ Upd c μ0 μ1)) 3 160) 2 68 μ 259 [(0, .ref a), (5, .int 1)] [] := by
  have hle32 := cntK_32 S3
  have hcap := hP3.cap
  have hthr48 : thrOf (HS.cap S3) ≤ 48 := by unfold thrOf; omega
  have h32 : cntK S ≤ thrOf (HS.cap S3) ∧ 2 ≤ HS.cap S3 := ⟨hc0, hcap.1⟩
  refine v_aload_n (pc := 259) O dJ23_putVal_259 rfl ?_
  refine v_dup (pc := 260) O dJ23_putVal_260 rfl ?_
  refine v_getf (pc := 261) O ci11 h_a 5 rfl q734 (fun _ h => h) rfl dJ23_putVal_261 ?_
  refine v_iconst (pc := 264) O (x := 1) dJ23_putVal_264 (by decide) ?_
  refine v_iadd (pc := 265) O dJ23_putVal_265 ?_
  refine w_put (pc := 266) O ci11 h_a 5 rfl q734 (fun _ h => h) rfl rfl rfl rfl dJ23_putVal_266 (fun μ pp => ?_)
  have hN3 := hN3.putO pp (by decide) (by decide)
  have h_a : μ a = some (.inr (11, [ks, .null, .ref (HS.tb S3), es, .int (nI (cntK S)), .int (md + 1), .int (nI (thrOf (HS.cap S3))), .float LF]), c) := pp.2.1
  have hU := hU.trans (pp.upd rfl rfl)
  refine v_aload_n (pc := 269) O dJ23_putVal_269 rfl ?_
  refine v_dup (pc := 270) O dJ23_putVal_270 rfl ?_
  refine v_getf (pc := 271) O ci11 h_a 4 rfl q732 (fun _ h => h) rfl dJ23_putVal_271 ?_
  refine v_iconst (pc := 274) O (x := 1) dJ23_putVal_274 (by decide) ?_
  refine w_iadd (pc := 275) O (nI (cntK S3)) (by rw [hcnt]; exact nI_1 _) dJ23_putVal_275 ?_
  refine v_dup_x1 (pc := 276) O dJ23_putVal_276 rfl rfl ?_
  refine w_put (pc := 277) O ci11 h_a 4 rfl q732 (fun _ h => h) rfl rfl rfl rfl dJ23_putVal_277 (fun μ pp => ?_)
  have hN3 := hN3.putO pp (by decide) (by decide)
  have h_a : μ a = some (.inr (11, [ks, .null, .ref (HS.tb S3), es, .int (nI (cntK S3)), .int (md + 1), .int (nI (thrOf (HS.cap S3))), .float LF]), c) := pp.2.1
  have hU := hU.trans (pp.upd rfl rfl)
  refine v_aload_n (pc := 280) O dJ23_putVal_280 rfl ?_
  refine v_getf (pc := 281) O ci11 h_a 6 rfl q735 (fun _ h => h) rfl dJ23_putVal_281 ?_
  refine v_icmp_le (pc := 284) (tgt := 292) O dJ23_putVal_284 (by decide) (fun c_284 => ?_) (fun c_284 => ?_)
  · have hle : cntK S3 ≤ thrOf (HS.cap S3) := (nI_leI (by omega) (by omega)).mp c_284
    refine v_aload_n (pc := 292) O dJ23_putVal_292 rfl ?_
    refine v_iload (pc := 293) O dJ23_putVal_293 rfl ?_
    refine v_callV (pc := 295) (nA := 1) O (hm_afterNodeInsertion (xL X) Γ) h_a rfl q1488 q1489 q1490 q78 q1491 (by decide +kernel) rfl rfl rfl rfl (Nat.le_of_ble_eq_true rfl) (by omega) (by omega) dJ23_putVal_295 (v_kV (fun μ9 h => ?_))
    subst h
    refine v_null (pc := 298) O dJ23_putVal_298 ?_
    exact v_aret (pc := 299) O hr (Or.inl ⟨_, rfl⟩) (by omega) (by omega) dJ23_putVal_299 (Or.inl rfl) ⟨none, rfl, ⟨S3, md + 1, h_a, hN3, hP3, hle, hPut, hU⟩⟩
  · have hgt : thrOf (HS.cap S3) < cntK S3 := Nat.lt_of_not_le (fun z => c_284 (nI_le z (by omega)))
    have hc64 := thr_cap hgt hle32
    refine v_aload_n (pc := 287) O dJ23_putVal_287 rfl ?_
    refine v_callV (pc := 288) (nA := 0) O (hm_resize (xL X) Γ h_a hN3 hP3 (by omega)) h_a rfl q1342 q1343 q1344 q78 q1345 (by decide +kernel) rfl rfl rfl rfl (Nat.le_of_ble_eq_true rfl) (by omega) (by omega) dJ23_putVal_288 (v_kR (fun r μ h => ?_))
    obtain ⟨hd, nx, h_a, hN3, hP3, hU2⟩ := h
    have hU := hU.trans hU2
    refine v_pop (pc := 291) O dJ23_putVal_291 rfl ?_
    refine v_aload_n (pc := 292) O dJ23_putVal_292 rfl ?_
    refine v_iload (pc := 293) O dJ23_putVal_293 rfl ?_
    refine v_callV (pc := 295) (nA := 1) O (hm_afterNodeInsertion (xL X) Γ) h_a rfl q1488 q1489 q1490 q78 q1491 (by decide +kernel) rfl rfl rfl rfl (Nat.le_of_ble_eq_true rfl) (by omega) (by omega) dJ23_putVal_295 (v_kV (fun μ9 h => ?_))
    subst h
    refine v_null (pc := 298) O dJ23_putVal_298 ?_
    exact v_aret (pc := 299) O hr (Or.inl ⟨_, rfl⟩) (by omega) (by omega) dJ23_putVal_299 (Or.inl rfl) ⟨none, rfl, ⟨spS S3 r hd nx, md + 1, h_a, hN3, hP3, thr_grow hcnt h32, hPut, hU⟩⟩
theorem addN_32 {S : HS} {κ q s v : Nat} (h : HPs S) (hκ : κ < 32) : ∀ k, (addN S κ q s v).P k = true → k < 32 := fun k hk => by
  by_cases e : k = κ
  · rw [e]; exact hκ
  · have : va_up S.P κ true k = true := hk
    rw [va_up_ne _ _ e] at this
    exact h.2.1 k this
theorem path_at {nx : Nat → Option Nat} {k : Nat} {r : List Nat} : ∀ {l : List Nat} {h : Option Nat}, Path nx h (l ++ k :: r) → Path nx (nx k) r
  | [], _, hp => hp.2
  | _ :: _, _, hp => path_at hp.2
set_option maxHeartbeats 4000000 in
theorem hm_put29 {X : Cx} {Γ : Gm} {μ0 μ : Mem} {sz_ : Nat} {a c κ s v : Nat} {ks es : Value} {md : Int32} {S : HS} (h_a : μ a = some (.inr (11, [ks, .null, .ref (HS.tb S), es, .int (nI (cntK S)), .int md, .int (nI (thrOf (HS.cap S))), .float LF]), c)) (hHN : HN Γ c S μ) (hP : HPs S) (hs : cntK S ≤ thrOf (HS.cap S)) (h_s : μ s = some (.inr (6, [.int (nI κ)]), 1)) (hκ : κ < 32) (hU : Upd c μ0 μ) (O : Ok X Γ (gA μ0 sz_) cJ23_putVal 13 yJ23_putVal.cls 4 3 160) (hr : (xT X).sig.returnType = some (.object "java/lang/Object")) : V X Γ (gA μ0 sz_) 13 (QV X Γ μ0 sz_ (PQ (fun r μ1 => ∃ (S' : HS) (md' : Int32), μ1 a = some (.inr (11, [ks, .null, .ref (HS.tb S'), es, .int (nI (cntK S')), .int md', .int (nI (thrOf (HS.cap S'))), .float LF]), c) ∧ HN Γ c S' μ1 ∧ HPs S' ∧ cntK S' ≤ thrOf (HS.cap S') ∧ PutP S S' κ v ∧ Upd c μ0 μ1)) 3 160) 1 64 μ 29 [(0, .ref a), (1, .int (hsh κ)), (2, .ref s), (3, .ref v), (4, .int 0), (5, .int 1), (6, .ref (HS.tb S)), (8, .int (nI (HS.cap S)))] [] := by
  obtain ⟨⟨f, h_tb, hf⟩, hN⟩ := hHN
  have hcap := hP.cap
  have hb := bk_lt hP κ
  refine v_aload (pc := 29) O dJ23_putVal_29 rfl ?_
  refine v_iload (pc := 31) O dJ23_putVal_31 rfl ?_
  refine v_iconst (pc := 33) O (x := 1) dJ23_putVal_33 (by decide) ?_
  refine w_isub (pc := 34) O (nI (HS.cap S - 1)) (nI_sub1 (by omega) (by omega)) dJ23_putVal_34 ?_
  refine v_iload_n (pc := 35) O dJ23_putVal_35 rfl ?_
  refine w_iand (pc := 36) O (nI (bk κ (HS.cap S))) (bk_and hP hκ) dJ23_putVal_36 ?_
  refine v_dup (pc := 37) O dJ23_putVal_37 rfl ?_
  refine v_istore (pc := 38) (lv' := [(9, .int (nI (bk κ (HS.cap S)))), (0, .ref a), (1, .int (hsh κ)), (2, .ref s), (3, .ref v), (4, .int 0), (5, .int 1), (6, .ref (HS.tb S)), (8, .int (nI (HS.cap S)))]) O dJ23_putVal_38 rfl rfl ?_
  rcases hh : S.hd (bk κ (HS.cap S)) with _ | k0
  · have hPκ : S.P κ = false := by cases hz : S.P κ with | false => rfl | true => (have h9 := (hP.2.2 _ hb).1; rw [hh] at h9; have h8 := hP.in.mpr hz; rw [h9.nil] at h8; cases h8)
    refine w_aldq (pc := 40) O 6 rfl h_tb (vp_in_nI hb (by omega)) (v := .null) (by rw [nI_clamp (show bk κ (HS.cap S) < 2 ^ 31 by omega), hf _ hb, hh]; rfl) dJ23_putVal_40 ?_
    refine v_dup (pc := 41) O dJ23_putVal_41 rfl ?_
    refine v_astoreN (pc := 42) (lv' := [(7, .null), (9, .int (nI (bk κ (HS.cap S)))), (0, .ref a), (1, .int (hsh κ)), (2, .ref s), (3, .ref v), (4, .int 0), (5, .int 1), (6, .ref (HS.tb S)), (8, .int (nI (HS.cap S)))]) O dJ23_putVal_42 rfl rfl ?_
    refine v_ifnonnullN (pc := 44) O dJ23_putVal_44 ?_
    refine v_aload (pc := 47) O dJ23_putVal_47 rfl ?_
    refine v_iload (pc := 49) O dJ23_putVal_49 rfl ?_
    refine v_aload_n (pc := 51) O dJ23_putVal_51 rfl ?_
    refine v_iload_n (pc := 52) O dJ23_putVal_52 rfl ?_
    refine v_aload_n (pc := 53) O dJ23_putVal_53 rfl ?_
    refine v_aload_n (pc := 54) O dJ23_putVal_54 rfl ?_
    refine v_null (pc := 55) O dJ23_putVal_55 ?_
    have h_tbo := h_tb
    have h_so := h_s
    have hNo := hN
    refine v_callV (pc := 56) (nA := 4) O (hm_newNode (xL X) Γ (r := none) c) h_a rfl q1430 q1431 q1432 q78 q1433 (by decide +kernel) rfl rfl rfl rfl (Nat.le_of_ble_eq_true rfl) (by omega) (by omega) dJ23_putVal_56 (v_kR (fun q μ h => ?_))
    have h_a := h.oth h_a
    have h_s := h.oth h_s
    have h_tb := h.oth h_tb
    have h_q : μ q = some (.inr (12, [.int (hsh κ), .ref s, .ref v, .null]), c) := h.2.1
    have hU := hU.trans (h.upd rfl)
    have hN2 : HN Γ c (addN S κ q s v) μ := HN.add hP ⟨⟨f, h_tbo, hf⟩, hNo⟩ hPκ h_so h
    obtain ⟨⟨f2, h_tb2, hf2⟩, hN2n⟩ := hN2
    have h_tb : μ (HS.tb S) = some (.inl (Γ.2.1 6, HS.cap S, .inr (.inr (.inr (.inr f2)))), c) := h_tb2
    refine w_astn (pc := 59) O h_tb h_q (vp_in_nI hb (by omega)) dJ23_putVal_59 (fun μ pp => ?_)
    rw [nI_clamp (show bk κ (HS.cap S) < 2 ^ 31 by omega)] at pp
    have h_a := pp.oth h_a (fun h => by cases h)
    have h_s := pp.oth h_s (fun h => by cases h)
    have h_q := pp.oth h_q (fun h => by cases h)
    have h_tb : μ (HS.tb S) = some (.inl (Γ.2.1 6, (HS.cap S), .inr (.inr (.inr (.inr (va_up f2 (bk κ (HS.cap S)) (some q)))))), c) := pp.2.1
    have hU := hU.trans (pp.upd rfl rfl)
    have hN3 : HN Γ c (hsE (addN S κ q s v) κ) μ := HN.insE' (va_up_self _ _ _) h_tb2 hf2 hN2n pp
    have hP3 := insE_ok (q := q) (s := s) (v := v) hP hκ hPκ hh
    refine v_goto (pc := 60) O (tgt := 259) dJ23_putVal_60 (by decide) ?_
    have hPut : PutP S (hsE (addN S κ q s v) κ) κ v := PutP.addE
    exact v_widen 2 68 (by omega) (by omega) (v_locs [2, 7] rfl (hm_put259 (s := s) (S3 := (hsE (addN S κ q s v) κ)) h_a hN3 hP3 (hPut.cnt hκ hPκ) hPut hs hU O hr))
  · obtain ⟨l0, hl0, hp0⟩ : ∃ r, S.B (bk κ (HS.cap S)) = k0 :: r ∧ Path S.nx (S.nx k0) r := by have h9 := (hP.2.2 _ hb).1; rw [hh] at h9; exact h9.cons
    have hmB : ∀ z ∈ k0 :: l0, S.P z = true := fun z hz => (((hP.2.2 _ hb).2.2 z).mp (by rw [hl0]; exact hz)).1
    have hbk0 := hP.2.1 k0 (hmB k0 List.mem_cons_self)
    have h_nk0 : μ (S.nd k0) = some (.inr (12, [.int (hsh k0), .ref (S.sp k0), .ref (S.vl k0), va_rf ((S.nx k0).map S.nd)]), c) := (hN k0 (hmB k0 List.mem_cons_self)).1
    have h_sk0 : μ (S.sp k0) = some (.inr (6, [.int (nI k0)]), 1) := (hN k0 (hmB k0 List.mem_cons_self)).2
    refine w_aldq (pc := 40) O 6 rfl h_tb (vp_in_nI hb (by omega)) (v := .ref (S.nd k0)) (by rw [nI_clamp (show bk κ (HS.cap S) < 2 ^ 31 by omega), hf _ hb, hh]; rfl) dJ23_putVal_40 ?_
    refine v_dup (pc := 41) O dJ23_putVal_41 rfl ?_
    refine v_astore (pc := 42) (lv' := [(7, .ref (S.nd k0)), (9, .int (nI (bk κ (HS.cap S)))), (0, .ref a), (1, .int (hsh κ)), (2, .ref s), (3, .ref v), (4, .int 0), (5, .int 1), (6, .ref (HS.tb S)), (8, .int (nI (HS.cap S)))]) O dJ23_putVal_42 rfl rfl ?_
    refine v_ifnonnull (pc := 44) O (tgt := 63) dJ23_putVal_44 (by decide) ?_
    refine v_aload (pc := 63) O dJ23_putVal_63 rfl ?_
    refine v_getf (pc := 65) O ci12 h_nk0 0 rfl q1371 (fun _ h => h) rfl dJ23_putVal_65 ?_
    refine v_iload_n (pc := 68) O dJ23_putVal_68 rfl ?_
    refine v_icmp_ne (pc := 69) (tgt := 104) O dJ23_putVal_69 (by decide) (fun c_69 => ?_) (fun c_69 => ?_)
    · refine v_aload (pc := 104) O dJ23_putVal_104 rfl ?_
      refine w_instN (pc := 106) O h_nk0 q1057 dJ23_putVal_106 ?_
      refine v_if_eq (pc := 109) (tgt := 131) O dJ23_putVal_109 (by decide) (fun _ => ?_) (fun c => absurd (by decide) c)
      refine v_iconst (pc := 131) O (x := 0) dJ23_putVal_131 (by decide) ?_
      refine v_istore (pc := 132) (lv' := [(12, .int 0), (7, .ref (S.nd k0)), (9, .int (nI (bk κ (HS.cap S)))), (0, .ref a), (1, .int (hsh κ)), (2, .ref s), (3, .ref v), (4, .int 0), (5, .int 1), (6, .ref (HS.tb S)), (8, .int (nI (HS.cap S)))]) O dJ23_putVal_132 rfl rfl ?_
      have L134 : ∀ (l : List Nat) (k : Nat) (pre : List Nat), S.B (bk κ (HS.cap S)) = pre ++ k :: l → κ ∉ pre ++ [k] → V X Γ (gA μ0 sz_) 13 (QV X Γ μ0 sz_ (PQ (fun r μ1 => ∃ (S' : HS) (md' : Int32), μ1 a = some (.inr (11, [ks, .null, .ref (HS.tb S'), es, .int (nI (cntK S')), .int md', .int (nI (thrOf (HS.cap S'))), .float LF]), c) ∧ HN Γ c S' μ1 ∧ HPs S' ∧ cntK S' ≤ thrOf (HS.cap S') ∧ PutP S S' κ v ∧ Upd c μ0 μ1)) 3 160) 1 64 μ 134 [(0, .ref a), (1, .int (hsh κ)), (2, .ref s), (3, .ref v), (4, .int 0), (5, .int 1), (6, .ref (HS.tb S)), (7, .ref (S.nd k)), (12, .int (nI pre.length))] [] := by
        intro l
        induction l with
        | nil =>
          intro k pre hBp hnm
          have hmall : ∀ z, z ∈ S.B (bk κ (HS.cap S)) → S.P z = true := fun z hz => (((hP.2.2 _ hb).2.2 z).mp hz).1
          have hmk : S.P k = true := hmall k (by rw [hBp]; simp)
          have hpre : pre.length ≤ 5 := by have h9 := chain_le hP hs hb; rw [hBp, List.length_append, List.length_cons] at h9; omega
          have hpk := path_at (l := pre) (by have h9 := (hP.2.2 _ hb).1; rw [hBp] at h9; exact h9)
          have hbk := hP.2.1 k hmk
          have h_nk : μ (S.nd k) = some (.inr (12, [.int (hsh k), .ref (S.sp k), .ref (S.vl k), .null]), c) := (by have h9 := (hN k hmk).1; rw [show S.nx k = none from hpk] at h9; exact h9)
          have h_sk : μ (S.sp k) = some (.inr (6, [.int (nI k)]), 1) := (hN k hmk).2
          refine v_aload (pc := 134) O dJ23_putVal_134 rfl ?_
          refine v_getf (pc := 136) O ci12 h_nk 3 rfl q1384 (fun _ h => h) rfl dJ23_putVal_136 ?_
          refine v_dup (pc := 139) O dJ23_putVal_139 rfl ?_
          refine v_astoreN (pc := 140) (lv' := [(10, .null), (0, .ref a), (1, .int (hsh κ)), (2, .ref s), (3, .ref v), (4, .int 0), (5, .int 1), (6, .ref (HS.tb S)), (7, .ref (S.nd k)), (12, .int (nI pre.length))]) O dJ23_putVal_140 rfl rfl ?_
          refine v_ifnonnullN (pc := 142) O dJ23_putVal_142 ?_
          refine v_aload (pc := 145) O dJ23_putVal_145 rfl ?_
          refine v_aload_n (pc := 147) O dJ23_putVal_147 rfl ?_
          refine v_iload_n (pc := 148) O dJ23_putVal_148 rfl ?_
          refine v_aload_n (pc := 149) O dJ23_putVal_149 rfl ?_
          refine v_aload_n (pc := 150) O dJ23_putVal_150 rfl ?_
          refine v_null (pc := 151) O dJ23_putVal_151 ?_
          have hPκ : S.P κ = false := by cases hz : S.P κ with | false => rfl | true => (have h8 := hP.in.mpr hz; rw [hBp] at h8; exact absurd h8 hnm)
          have h_tbo := h_tb
          have h_so := h_s
          have hNo := hN
          refine v_callV (pc := 152) (nA := 4) O (hm_newNode (xL X) Γ (r := none) c) h_a rfl q1430 q1431 q1432 q78 q1433 (by decide +kernel) rfl rfl rfl rfl (Nat.le_of_ble_eq_true rfl) (by omega) (by omega) dJ23_putVal_152 (v_kR (fun q μ h => ?_))
          have h_a := h.oth h_a
          have h_s := h.oth h_s
          have h_tb := h.oth h_tb
          have h_q : μ q = some (.inr (12, [.int (hsh κ), .ref s, .ref v, .null]), c) := h.2.1
          have hU := hU.trans (h.upd rfl)
          have hN2 : HN Γ c (addN S κ q s v) μ := HN.add hP ⟨⟨f, h_tbo, hf⟩, hNo⟩ hPκ h_so h
          have h_nk : μ (S.nd k) = some (.inr (12, [.int (hsh k), .ref (S.sp k), .ref (S.vl k), .null]), c) := h.oth h_nk
          refine w_put (pc := 155) O ci12 h_nk 3 rfl q1384 (fun _ h => h) rfl rfl rfl rfl dJ23_putVal_155 (fun μ pp => ?_)
          have h_a := pp.oth h_a (fun h => by cases h)
          have h_s := pp.oth h_s (fun h => by cases h)
          have hU := hU.trans (pp.upd rfl rfl)
          have hkκ : k ≠ κ := fun e => by rw [e, hPκ] at hmk; cases hmk
          have hN3 : HN Γ c (hsA (addN S κ q s v) κ k) μ := HN.insA' (va_up_self _ _ _) (va_up_ne _ _ hkκ) (va_up_ne _ _ hkκ) (va_up_ne _ _ hkκ) (addN_32 hP hκ) hN2 (by show va_up S.P κ true k = true; rw [va_up_ne _ _ hkκ]; exact hmk) pp
          have hP3 := insA_ok (q := q) (s := s) (v := v) hP hκ hPκ (L := pre) (t := k) (by rw [hBp])
          refine v_iload (pc := 158) O dJ23_putVal_158 rfl ?_
          refine v_bipush (pc := 160) O (x := 7) dJ23_putVal_160 (by decide) ?_
          refine v_icmp_lt (pc := 162) (tgt := 222) O dJ23_putVal_162 (by decide) (fun _ => ?_) (fun c => absurd (show nI pre.length < 7 from nI_lt (b := 7) (by omega) (by omega)) c)
          refine v_aloadN (pc := 222) O dJ23_putVal_222 rfl ?_
          refine v_ifnullN (pc := 224) O (tgt := 259) dJ23_putVal_224 (by decide) ?_
          have hPut : PutP S (hsA (addN S κ q s v) κ k) κ v := PutP.addA
          exact v_widen 2 68 (by omega) (by omega) (v_locs [1, 6] rfl (hm_put259 (s := s) (S3 := (hsA (addN S κ q s v) κ k)) h_a hN3 hP3 (hPut.cnt hκ hPκ) hPut hs hU O hr))
        | cons k1 l ih =>
          intro k pre hBp hnm
          have hmall : ∀ z, z ∈ S.B (bk κ (HS.cap S)) → S.P z = true := fun z hz => (((hP.2.2 _ hb).2.2 z).mp hz).1
          have hmk : S.P k = true := hmall k (by rw [hBp]; simp)
          have hpre : pre.length ≤ 5 := by have h9 := chain_le hP hs hb; rw [hBp, List.length_append, List.length_cons] at h9; omega
          have hpk := path_at (l := pre) (by have h9 := (hP.2.2 _ hb).1; rw [hBp] at h9; exact h9)
          have hbk := hP.2.1 k hmk
          have h_nk : μ (S.nd k) = some (.inr (12, [.int (hsh k), .ref (S.sp k), .ref (S.vl k), .ref (S.nd k1)]), c) := (by have h9 := (hN k hmk).1; rw [hpk.1] at h9; exact h9)
          have h_sk : μ (S.sp k) = some (.inr (6, [.int (nI k)]), 1) := (hN k hmk).2
          have hmk1 : S.P k1 = true := hmall k1 (by rw [hBp]; simp)
          have hbk1 := hP.2.1 k1 hmk1
          have h_nk1 : μ (S.nd k1) = some (.inr (12, [.int (hsh k1), .ref (S.sp k1), .ref (S.vl k1), va_rf ((S.nx k1).map S.nd)]), c) := (hN k1 hmk1).1
          have h_sk1 : μ (S.sp k1) = some (.inr (6, [.int (nI k1)]), 1) := (hN k1 hmk1).2
          refine v_aload (pc := 134) O dJ23_putVal_134 rfl ?_
          refine v_getf (pc := 136) O ci12 h_nk 3 rfl q1384 (fun _ h => h) rfl dJ23_putVal_136 ?_
          refine v_dup (pc := 139) O dJ23_putVal_139 rfl ?_
          refine v_astore (pc := 140) (lv' := [(10, .ref (S.nd k1)), (0, .ref a), (1, .int (hsh κ)), (2, .ref s), (3, .ref v), (4, .int 0), (5, .int 1), (6, .ref (HS.tb S)), (7, .ref (S.nd k)), (12, .int (nI pre.length))]) O dJ23_putVal_140 rfl rfl ?_
          refine v_ifnonnull (pc := 142) O (tgt := 175) dJ23_putVal_142 (by decide) ?_
          refine v_aload (pc := 175) O dJ23_putVal_175 rfl ?_
          refine v_getf (pc := 177) O ci12 h_nk1 0 rfl q1371 (fun _ h => h) rfl dJ23_putVal_177 ?_
          refine v_iload_n (pc := 180) O dJ23_putVal_180 rfl ?_
          refine v_icmp_ne (pc := 181) (tgt := 212) O dJ23_putVal_181 (by decide) (fun c_181 => ?_) (fun c_181 => ?_)
          · refine v_aload (pc := 212) O dJ23_putVal_212 rfl ?_
            refine v_astore (pc := 214) (lv' := [(7, .ref (S.nd k1)), (10, .ref (S.nd k1)), (0, .ref a), (1, .int (hsh κ)), (2, .ref s), (3, .ref v), (4, .int 0), (5, .int 1), (6, .ref (HS.tb S)), (12, .int (nI pre.length))]) O dJ23_putVal_214 rfl rfl ?_
            refine v_iinc (pc := 216) (y := (nI (pre.length + 1))) (lv' := [(12, .int (nI (pre.length + 1))), (7, .ref (S.nd k1)), (10, .ref (S.nd k1)), (0, .ref a), (1, .int (hsh κ)), (2, .ref s), (3, .ref v), (4, .int 0), (5, .int 1), (6, .ref (HS.tb S))]) O dJ23_putVal_216 rfl (nI_inc _) rfl rfl ?_
            refine v_goto (pc := 219) O (tgt := 134) dJ23_putVal_219 (by decide) ?_
            exact v_locs [3, 4, 5, 6, 7, 8, 9, 1, 0] rfl (by have h9 := ih k1 (pre ++ [k]) (by rw [hBp]; simp) (fun z => (List.mem_append.mp z).elim (fun y => hnm y) (fun y => by rcases List.mem_cons.mp y with y | y; exact c_181 (by rw [y]); cases y)); rw [List.length_append] at h9; exact h9)
          · have hek1 : k1 = κ := hsh_inj hbk1 hκ c_181
            refine v_aload (pc := 184) O dJ23_putVal_184 rfl ?_
            refine v_getf (pc := 186) O ci12 h_nk1 1 rfl q1376 (fun _ h => h) rfl dJ23_putVal_186 ?_
            refine v_dup (pc := 189) O dJ23_putVal_189 rfl ?_
            refine v_astore (pc := 190) (lv' := [(11, .ref (S.sp k1)), (10, .ref (S.nd k1)), (0, .ref a), (1, .int (hsh κ)), (2, .ref s), (3, .ref v), (4, .int 0), (5, .int 1), (6, .ref (HS.tb S)), (7, .ref (S.nd k)), (12, .int (nI pre.length))]) O dJ23_putVal_190 rfl rfl ?_
            refine v_aload_n (pc := 192) O dJ23_putVal_192 rfl ?_
            refine v_acmp_eq (pc := 193) (tgt := 222) (rx := (some (S.sp k1))) (ry := (some s)) O dJ23_putVal_193 (by decide) (fun c_193_1 => ?_) (fun c_193_1 => ?_)
            · refine v_aload (pc := 222) O dJ23_putVal_222 rfl ?_
              refine v_ifnull (pc := 224) O dJ23_putVal_224 ?_
              refine v_aload (pc := 227) O dJ23_putVal_227 rfl ?_
              refine v_getf (pc := 229) O ci12 h_nk1 2 rfl q1378 (fun _ h => h) rfl dJ23_putVal_229 ?_
              refine v_astore (pc := 232) (lv' := [(12, .ref (S.vl k1)), (11, .ref (S.sp k1)), (10, .ref (S.nd k1)), (0, .ref a), (1, .int (hsh κ)), (2, .ref s), (3, .ref v), (4, .int 0), (5, .int 1), (6, .ref (HS.tb S)), (7, .ref (S.nd k))]) O dJ23_putVal_232 rfl rfl ?_
              refine v_iload (pc := 234) O dJ23_putVal_234 rfl ?_
              refine v_if_eq (pc := 236) (tgt := 244) O dJ23_putVal_236 (by decide) (fun _ => ?_) (fun c => absurd (by decide) c)
              refine v_aload (pc := 244) O dJ23_putVal_244 rfl ?_
              refine v_aload_n (pc := 246) O dJ23_putVal_246 rfl ?_
              refine w_put (pc := 247) O ci12 h_nk1 2 rfl q1378 (fun _ h => h) rfl rfl rfl rfl dJ23_putVal_247 (fun μ pp => ?_)
              have h_a := pp.oth h_a (fun h => by cases h)
              have h_s := pp.oth h_s (fun h => by cases h)
              have hU := hU.trans (pp.upd rfl rfl)
              refine v_aload_n (pc := 250) O dJ23_putVal_250 rfl ?_
              refine v_aload (pc := 251) O dJ23_putVal_251 rfl ?_
              refine v_callV (pc := 253) (nA := 1) O (hm_afterNodeAccess (xL X) Γ) h_a rfl q1484 q1485 q1486 q78 q1487 (by decide +kernel) rfl rfl rfl rfl (Nat.le_of_ble_eq_true rfl) (by omega) (by omega) dJ23_putVal_253 (v_kV (fun μ9 h => ?_))
              subst h
              refine v_aload (pc := 256) O dJ23_putVal_256 rfl ?_
              have hN3 : HN Γ c (hsV S k1 v) μ := HN.setV hP ⟨⟨f, h_tb, hf⟩, hN⟩ hmk1 pp
              have hPut : PutP S (hsV S k1 v) κ v := by rw [← hek1]; exact PutP.set hmk1
              exact v_aret (pc := 258) O hr (Or.inl ⟨_, rfl⟩) (by omega) (by omega) dJ23_putVal_258 (Or.inr ⟨_, rfl⟩) ⟨(some (S.vl k1)), rfl, ⟨hsV S k1 v, md, h_a, hN3, hP, hs, hPut, hU⟩⟩
            · refine v_aload_n (pc := 196) O dJ23_putVal_196 rfl ?_
              refine v_ifnull (pc := 197) O dJ23_putVal_197 ?_
              refine v_aload_n (pc := 200) O dJ23_putVal_200 rfl ?_
              refine v_aload (pc := 201) O dJ23_putVal_201 rfl ?_
              refine v_callU (pc := 203) (nA := 1) (owner := "java/lang/Object") O (hm_spotEq (xL X) Γ h_s h_sk1 hκ hbk1) h_s rfl (lw5 q1019 q1021 q1027 q1028 q79) q1029 (Or.inr q1018) (by decide +kernel) rfl rfl rfl rfl (Nat.le_of_ble_eq_true rfl) (by omega) (by omega) dJ23_putVal_203 (v_kI (fun x μ9 h => ?_))
              obtain ⟨h9, rfl⟩ := h
              rw [decide_eq_true hek1] at h9
              obtain rfl : x = 1 := h9
              refine v_if_eq (pc := 206) (tgt := 212) O dJ23_putVal_206 (by decide) (fun c => absurd c (by decide)) (fun _ => ?_)
              refine v_goto (pc := 209) O (tgt := 222) dJ23_putVal_209 (by decide) ?_
              refine v_aload (pc := 222) O dJ23_putVal_222 rfl ?_
              refine v_ifnull (pc := 224) O dJ23_putVal_224 ?_
              refine v_aload (pc := 227) O dJ23_putVal_227 rfl ?_
              refine v_getf (pc := 229) O ci12 h_nk1 2 rfl q1378 (fun _ h => h) rfl dJ23_putVal_229 ?_
              refine v_astore (pc := 232) (lv' := [(12, .ref (S.vl k1)), (11, .ref (S.sp k1)), (10, .ref (S.nd k1)), (0, .ref a), (1, .int (hsh κ)), (2, .ref s), (3, .ref v), (4, .int 0), (5, .int 1), (6, .ref (HS.tb S)), (7, .ref (S.nd k))]) O dJ23_putVal_232 rfl rfl ?_
              refine v_iload (pc := 234) O dJ23_putVal_234 rfl ?_
              refine v_if_eq (pc := 236) (tgt := 244) O dJ23_putVal_236 (by decide) (fun _ => ?_) (fun c => absurd (by decide) c)
              refine v_aload (pc := 244) O dJ23_putVal_244 rfl ?_
              refine v_aload_n (pc := 246) O dJ23_putVal_246 rfl ?_
              refine w_put (pc := 247) O ci12 h_nk1 2 rfl q1378 (fun _ h => h) rfl rfl rfl rfl dJ23_putVal_247 (fun μ pp => ?_)
              have h_a := pp.oth h_a (fun h => by cases h)
              have h_s := pp.oth h_s (fun h => by cases h)
              have hU := hU.trans (pp.upd rfl rfl)
              refine v_aload_n (pc := 250) O dJ23_putVal_250 rfl ?_
              refine v_aload (pc := 251) O dJ23_putVal_251 rfl ?_
              refine v_callV (pc := 253) (nA := 1) O (hm_afterNodeAccess (xL X) Γ) h_a rfl q1484 q1485 q1486 q78 q1487 (by decide +kernel) rfl rfl rfl rfl (Nat.le_of_ble_eq_true rfl) (by omega) (by omega) dJ23_putVal_253 (v_kV (fun μ9 h => ?_))
              subst h
              refine v_aload (pc := 256) O dJ23_putVal_256 rfl ?_
              have hN3 : HN Γ c (hsV S k1 v) μ := HN.setV hP ⟨⟨f, h_tb, hf⟩, hN⟩ hmk1 pp
              have hPut : PutP S (hsV S k1 v) κ v := by rw [← hek1]; exact PutP.set hmk1
              exact v_aret (pc := 258) O hr (Or.inl ⟨_, rfl⟩) (by omega) (by omega) dJ23_putVal_258 (Or.inr ⟨_, rfl⟩) ⟨(some (S.vl k1)), rfl, ⟨hsV S k1 v, md, h_a, hN3, hP, hs, hPut, hU⟩⟩
      exact v_locs [3, 4, 5, 6, 7, 8, 9, 1, 0] rfl (L134 l0 k0 [] hl0 (fun z => by rcases List.mem_cons.mp z with y | y; exact c_69 (by rw [y]); cases y))
    · have hek0 : k0 = κ := hsh_inj hbk0 hκ c_69
      have hmk0 := hmB k0 List.mem_cons_self
      refine v_aload (pc := 72) O dJ23_putVal_72 rfl ?_
      refine v_getf (pc := 74) O ci12 h_nk0 1 rfl q1376 (fun _ h => h) rfl dJ23_putVal_74 ?_
      refine v_dup (pc := 77) O dJ23_putVal_77 rfl ?_
      refine v_astore (pc := 78) (lv' := [(11, .ref (S.sp k0)), (7, .ref (S.nd k0)), (9, .int (nI (bk κ (HS.cap S)))), (0, .ref a), (1, .int (hsh κ)), (2, .ref s), (3, .ref v), (4, .int 0), (5, .int 1), (6, .ref (HS.tb S)), (8, .int (nI (HS.cap S)))]) O dJ23_putVal_78 rfl rfl ?_
      refine v_aload_n (pc := 80) O dJ23_putVal_80 rfl ?_
      refine v_acmp_eq (pc := 81) (tgt := 97) (rx := (some (S.sp k0))) (ry := (some s)) O dJ23_putVal_81 (by decide) (fun c_81_2 => ?_) (fun c_81_2 => ?_)
      · refine v_aload (pc := 97) O dJ23_putVal_97 rfl ?_
        refine v_astore (pc := 99) (lv' := [(10, .ref (S.nd k0)), (11, .ref (S.sp k0)), (7, .ref (S.nd k0)), (9, .int (nI (bk κ (HS.cap S)))), (0, .ref a), (1, .int (hsh κ)), (2, .ref s), (3, .ref v), (4, .int 0), (5, .int 1), (6, .ref (HS.tb S)), (8, .int (nI (HS.cap S)))]) O dJ23_putVal_99 rfl rfl ?_
        refine v_goto (pc := 101) O (tgt := 222) dJ23_putVal_101 (by decide) ?_
        refine v_aload (pc := 222) O dJ23_putVal_222 rfl ?_
        refine v_ifnull (pc := 224) O dJ23_putVal_224 ?_
        refine v_aload (pc := 227) O dJ23_putVal_227 rfl ?_
        refine v_getf (pc := 229) O ci12 h_nk0 2 rfl q1378 (fun _ h => h) rfl dJ23_putVal_229 ?_
        refine v_astore (pc := 232) (lv' := [(12, .ref (S.vl k0)), (10, .ref (S.nd k0)), (11, .ref (S.sp k0)), (7, .ref (S.nd k0)), (9, .int (nI (bk κ (HS.cap S)))), (0, .ref a), (1, .int (hsh κ)), (2, .ref s), (3, .ref v), (4, .int 0), (5, .int 1), (6, .ref (HS.tb S)), (8, .int (nI (HS.cap S)))]) O dJ23_putVal_232 rfl rfl ?_
        refine v_iload (pc := 234) O dJ23_putVal_234 rfl ?_
        refine v_if_eq (pc := 236) (tgt := 244) O dJ23_putVal_236 (by decide) (fun _ => ?_) (fun c => absurd (by decide) c)
        refine v_aload (pc := 244) O dJ23_putVal_244 rfl ?_
        refine v_aload_n (pc := 246) O dJ23_putVal_246 rfl ?_
        refine w_put (pc := 247) O ci12 h_nk0 2 rfl q1378 (fun _ h => h) rfl rfl rfl rfl dJ23_putVal_247 (fun μ pp => ?_)
        have h_a := pp.oth h_a (fun h => by cases h)
        have h_s := pp.oth h_s (fun h => by cases h)
        have hU := hU.trans (pp.upd rfl rfl)
        refine v_aload_n (pc := 250) O dJ23_putVal_250 rfl ?_
        refine v_aload (pc := 251) O dJ23_putVal_251 rfl ?_
        refine v_callV (pc := 253) (nA := 1) O (hm_afterNodeAccess (xL X) Γ) h_a rfl q1484 q1485 q1486 q78 q1487 (by decide +kernel) rfl rfl rfl rfl (Nat.le_of_ble_eq_true rfl) (by omega) (by omega) dJ23_putVal_253 (v_kV (fun μ9 h => ?_))
        subst h
        refine v_aload (pc := 256) O dJ23_putVal_256 rfl ?_
        have hN3 : HN Γ c (hsV S k0 v) μ := HN.setV hP ⟨⟨f, h_tb, hf⟩, hN⟩ hmk0 pp
        have hPut : PutP S (hsV S k0 v) κ v := by rw [← hek0]; exact PutP.set hmk0
        exact v_aret (pc := 258) O hr (Or.inl ⟨_, rfl⟩) (by omega) (by omega) dJ23_putVal_258 (Or.inr ⟨_, rfl⟩) ⟨(some (S.vl k0)), rfl, ⟨hsV S k0 v, md, h_a, hN3, hP, hs, hPut, hU⟩⟩
      · refine v_aload_n (pc := 84) O dJ23_putVal_84 rfl ?_
        refine v_ifnull (pc := 85) O dJ23_putVal_85 ?_
        refine v_aload_n (pc := 88) O dJ23_putVal_88 rfl ?_
        refine v_aload (pc := 89) O dJ23_putVal_89 rfl ?_
        refine v_callU (pc := 91) (nA := 1) (owner := "java/lang/Object") O (hm_spotEq (xL X) Γ h_s h_sk0 hκ hbk0) h_s rfl (lw5 q1019 q1021 q1027 q1028 q79) q1029 (Or.inr q1018) (by decide +kernel) rfl rfl rfl rfl (Nat.le_of_ble_eq_true rfl) (by omega) (by omega) dJ23_putVal_91 (v_kI (fun x μ9 h => ?_))
        obtain ⟨h9, rfl⟩ := h
        rw [decide_eq_true hek0] at h9
        obtain rfl : x = 1 := h9
        refine v_if_eq (pc := 94) (tgt := 104) O dJ23_putVal_94 (by decide) (fun c => absurd c (by decide)) (fun _ => ?_)
        refine v_aload (pc := 97) O dJ23_putVal_97 rfl ?_
        refine v_astore (pc := 99) (lv' := [(10, .ref (S.nd k0)), (11, .ref (S.sp k0)), (7, .ref (S.nd k0)), (9, .int (nI (bk κ (HS.cap S)))), (0, .ref a), (1, .int (hsh κ)), (2, .ref s), (3, .ref v), (4, .int 0), (5, .int 1), (6, .ref (HS.tb S)), (8, .int (nI (HS.cap S)))]) O dJ23_putVal_99 rfl rfl ?_
        refine v_goto (pc := 101) O (tgt := 222) dJ23_putVal_101 (by decide) ?_
        refine v_aload (pc := 222) O dJ23_putVal_222 rfl ?_
        refine v_ifnull (pc := 224) O dJ23_putVal_224 ?_
        refine v_aload (pc := 227) O dJ23_putVal_227 rfl ?_
        refine v_getf (pc := 229) O ci12 h_nk0 2 rfl q1378 (fun _ h => h) rfl dJ23_putVal_229 ?_
        refine v_astore (pc := 232) (lv' := [(12, .ref (S.vl k0)), (10, .ref (S.nd k0)), (11, .ref (S.sp k0)), (7, .ref (S.nd k0)), (9, .int (nI (bk κ (HS.cap S)))), (0, .ref a), (1, .int (hsh κ)), (2, .ref s), (3, .ref v), (4, .int 0), (5, .int 1), (6, .ref (HS.tb S)), (8, .int (nI (HS.cap S)))]) O dJ23_putVal_232 rfl rfl ?_
        refine v_iload (pc := 234) O dJ23_putVal_234 rfl ?_
        refine v_if_eq (pc := 236) (tgt := 244) O dJ23_putVal_236 (by decide) (fun _ => ?_) (fun c => absurd (by decide) c)
        refine v_aload (pc := 244) O dJ23_putVal_244 rfl ?_
        refine v_aload_n (pc := 246) O dJ23_putVal_246 rfl ?_
        refine w_put (pc := 247) O ci12 h_nk0 2 rfl q1378 (fun _ h => h) rfl rfl rfl rfl dJ23_putVal_247 (fun μ pp => ?_)
        have h_a := pp.oth h_a (fun h => by cases h)
        have h_s := pp.oth h_s (fun h => by cases h)
        have hU := hU.trans (pp.upd rfl rfl)
        refine v_aload_n (pc := 250) O dJ23_putVal_250 rfl ?_
        refine v_aload (pc := 251) O dJ23_putVal_251 rfl ?_
        refine v_callV (pc := 253) (nA := 1) O (hm_afterNodeAccess (xL X) Γ) h_a rfl q1484 q1485 q1486 q78 q1487 (by decide +kernel) rfl rfl rfl rfl (Nat.le_of_ble_eq_true rfl) (by omega) (by omega) dJ23_putVal_253 (v_kV (fun μ9 h => ?_))
        subst h
        refine v_aload (pc := 256) O dJ23_putVal_256 rfl ?_
        have hN3 : HN Γ c (hsV S k0 v) μ := HN.setV hP ⟨⟨f, h_tb, hf⟩, hN⟩ hmk0 pp
        have hPut : PutP S (hsV S k0 v) κ v := by rw [← hek0]; exact PutP.set hmk0
        exact v_aret (pc := 258) O hr (Or.inl ⟨_, rfl⟩) (by omega) (by omega) dJ23_putVal_258 (Or.inr ⟨_, rfl⟩) ⟨(some (S.vl k0)), rfl, ⟨hsV S k0 v, md, h_a, hN3, hP, hs, hPut, hU⟩⟩
set_option maxHeartbeats 4000000 in
theorem hm_putVal (l : Launch) (Γ : Gm) {a c κ s v : Nat} {ks es : Value} {md : Int32} {S : HS} {μ0 : Mem} (h_a : μ0 a = some (.inr (11, [ks, .null, .ref (HS.tb S), es, .int (nI (cntK S)), .int md, .int (nI (thrOf (HS.cap S))), .float LF]), c)) (hHN : HN Γ c S μ0) (hP : HPs S) (hs : cntK S ≤ thrOf (HS.cap S)) (h_s : μ0 s = some (.inr (6, [.int (nI κ)]), 1)) (hκ : κ < 32) : MetV l Γ yJ23_putVal cJ23_putVal 13 (some (.object "java/lang/Object")) 4 3 160 [.ref a, .int (hsh κ), .ref s, .ref v, .int 0, .int 1] μ0 (PQ (fun r μ1 => ∃ (S' : HS) (md' : Int32), μ1 a = some (.inr (11, [ks, .null, .ref (HS.tb S'), es, .int (nI (cntK S')), .int md', .int (nI (thrOf (HS.cap S'))), .float LF]), c) ∧ HN Γ c S' μ1 ∧ HPs S' ∧ cntK S' ≤ thrOf (HS.cap S') ∧ PutP S S' κ v ∧ Upd c μ0 μ1)) := by
  refine MetV.of (by decide +kernel) rfl ?_
  intro X sz_ hl hr hnm O
  subst hl
  have hU : Upd c μ0 μ0 := Upd.rf
  have hHN0 := hHN
  obtain ⟨⟨f, h_tb, hf⟩, hN⟩ := hHN0
  have hcap := hP.cap
  show V X Γ _ 13 _ 0 0 μ0 0 [(0, .ref a), (1, .int (hsh κ)), (2, .ref s), (3, .ref v), (4, .int 0), (5, .int 1)] []
  refine v_aload_n (pc := 0) O dJ23_putVal_0 rfl ?_
  refine v_getf (pc := 1) O ci11 h_a 2 rfl q729 (fun _ h => h) rfl dJ23_putVal_1 ?_
  refine v_dup (pc := 4) O dJ23_putVal_4 rfl ?_
  refine v_astore (pc := 5) (lv' := [(6, .ref (HS.tb S)), (0, .ref a), (1, .int (hsh κ)), (2, .ref s), (3, .ref v), (4, .int 0), (5, .int 1)]) O dJ23_putVal_5 rfl rfl ?_
  refine v_ifnull (pc := 7) O dJ23_putVal_7 ?_
  refine v_aload (pc := 10) O dJ23_putVal_10 rfl ?_
  refine v_alen (pc := 12) O 6 rfl h_tb (v := nI (HS.cap S)) rfl dJ23_putVal_12 ?_
  refine v_dup (pc := 13) O dJ23_putVal_13 rfl ?_
  refine v_istore (pc := 14) (lv' := [(8, .int (nI (HS.cap S))), (6, .ref (HS.tb S)), (0, .ref a), (1, .int (hsh κ)), (2, .ref s), (3, .ref v), (4, .int 0), (5, .int 1)]) O dJ23_putVal_14 rfl rfl ?_
  refine v_if_ne (pc := 16) (tgt := 29) O dJ23_putVal_16 (by decide) (fun _ => ?_) (fun c => absurd c (nI_ne0 (by omega) (by omega)))
  exact v_widen 1 64 (by omega) (by omega) (v_locs [2, 3, 4, 5, 6, 7, 1, 0] rfl (hm_put29 (S := S) h_a hHN hP hs h_s hκ hU O hr))
theorem cnt_em {N q : Nat} : cntK (emS N q) = 0 := by
  have : ∀ n, cntP (fun _ => false) n = 0 := fun n => by
    induction n with
    | zero => exact cntP_0
    | succ n ih => rw [cntP_s, if_neg (fun h => by cases h)]; exact ih
  exact this 32
set_option maxHeartbeats 4000000 in
theorem hm_putVal16 (l : Launch) (Γ : Gm) {a c κ s v : Nat} {ks es : Value} {md : Int32} {μ0 : Mem} (h_a : μ0 a = some (.inr (11, [ks, .null, .null, es, .int (nI (cntK (emS 16 0))), .int md, .int 0, .float LF]), c)) (h_s : μ0 s = some (.inr (6, [.int (nI κ)]), 1)) (hκ : κ < 32) (hc1 : c ≠ 1) : MetV l Γ yJ23_putVal cJ23_putVal 13 (some (.object "java/lang/Object")) 4 3 160 [.ref a, .int (hsh κ), .ref s, .ref v, .int 0, .int 1] μ0 (PQ (fun r μ1 => ∃ (S' : HS) (md' : Int32), μ1 a = some (.inr (11, [ks, .null, .ref (HS.tb S'), es, .int (nI (cntK S')), .int md', .int (nI (thrOf (HS.cap S'))), .float LF]), c) ∧ HN Γ c S' μ1 ∧ HPs S' ∧ cntK S' ≤ thrOf (HS.cap S') ∧ PutP (emS 16 0) S' κ v ∧ Upd c μ0 μ1)) := by
  refine MetV.of (by decide +kernel) rfl ?_
  intro X sz_ hl hr hnm O
  subst hl
  have hU : Upd c μ0 μ0 := Upd.rf
  show V X Γ _ 13 _ 0 0 μ0 0 [(0, .ref a), (1, .int (hsh κ)), (2, .ref s), (3, .ref v), (4, .int 0), (5, .int 1)] []
  refine v_aload_n (pc := 0) O dJ23_putVal_0 rfl ?_
  refine v_getf (pc := 1) O ci11 h_a 2 rfl q729 (fun _ h => h) rfl dJ23_putVal_1 ?_
  refine v_dup (pc := 4) O dJ23_putVal_4 rfl ?_
  refine v_astoreN (pc := 5) (lv' := [(6, .null), (0, .ref a), (1, .int (hsh κ)), (2, .ref s), (3, .ref v), (4, .int 0), (5, .int 1)]) O dJ23_putVal_5 rfl rfl ?_
  refine v_ifnullN (pc := 7) O (tgt := 19) dJ23_putVal_7 (by decide) ?_
  refine v_aload_n (pc := 19) O dJ23_putVal_19 rfl ?_
  refine v_callV (pc := 20) (nA := 0) O (hm_resize16 (xL X) Γ h_a) h_a rfl q1342 q1343 q1344 q78 q1345 (by decide +kernel) rfl rfl rfl rfl (Nat.le_of_ble_eq_true rfl) (by omega) (by omega) dJ23_putVal_20 (v_kR (fun r μ h => ?_))
  obtain ⟨h_a, hHN, hP, hU2⟩ := h
  have hU := hU.trans hU2
  have h_s := hU2.to h_s (Ne.symm hc1)
  have hHN0 := hHN
  obtain ⟨⟨f, h_tb, hf⟩, hN⟩ := hHN0
  have hcap := hP.cap
  have hs : cntK (emS 16 r) ≤ thrOf (HS.cap (emS 16 r)) := by rw [cnt_em]; exact Nat.zero_le _
  refine v_dup (pc := 23) O dJ23_putVal_23 rfl ?_
  refine v_astore (pc := 24) (lv' := [(6, .ref r), (0, .ref a), (1, .int (hsh κ)), (2, .ref s), (3, .ref v), (4, .int 0), (5, .int 1)]) O dJ23_putVal_24 rfl rfl ?_
  refine v_alen (pc := 26) O 6 rfl h_tb (v := nI 16) rfl dJ23_putVal_26 ?_
  refine v_istore (pc := 27) (lv' := [(8, .int (nI 16)), (6, .ref r), (0, .ref a), (1, .int (hsh κ)), (2, .ref s), (3, .ref v), (4, .int 0), (5, .int 1)]) O dJ23_putVal_27 rfl rfl ?_
  exact v_widen 1 64 (by omega) (by omega) (v_locs [2, 3, 4, 5, 6, 7, 1, 0] rfl (hm_put29 (S := emS 16 r) h_a hHN hP hs h_s hκ hU O hr))
set_option maxHeartbeats 4000000 in
theorem hm_putValT (l : Launch) (Γ : Gm) {a c κ s v : Nat} {ks es : Value} {md : Int32} {μ0 : Mem} {N : Nat} (hNN : ∃ e, 1 ≤ e ∧ e ≤ 6 ∧ N = 2 ^ e) (h_a : μ0 a = some (.inr (11, [ks, .null, .null, es, .int (nI (cntK (emS N 0))), .int md, .int (nI N), .float LF]), c)) (h_s : μ0 s = some (.inr (6, [.int (nI κ)]), 1)) (hκ : κ < 32) (hc1 : c ≠ 1) : MetV l Γ yJ23_putVal cJ23_putVal 13 (some (.object "java/lang/Object")) 4 3 160 [.ref a, .int (hsh κ), .ref s, .ref v, .int 0, .int 1] μ0 (PQ (fun r μ1 => ∃ (S' : HS) (md' : Int32), μ1 a = some (.inr (11, [ks, .null, .ref (HS.tb S'), es, .int (nI (cntK S')), .int md', .int (nI (thrOf (HS.cap S'))), .float LF]), c) ∧ HN Γ c S' μ1 ∧ HPs S' ∧ cntK S' ≤ thrOf (HS.cap S') ∧ PutP (emS N 0) S' κ v ∧ Upd c μ0 μ1)) := by
  refine MetV.of (by decide +kernel) rfl ?_
  intro X sz_ hl hr hnm O
  subst hl
  have hU : Upd c μ0 μ0 := Upd.rf
  have hcapN := pow_le hNN
  show V X Γ _ 13 _ 0 0 μ0 0 [(0, .ref a), (1, .int (hsh κ)), (2, .ref s), (3, .ref v), (4, .int 0), (5, .int 1)] []
  refine v_aload_n (pc := 0) O dJ23_putVal_0 rfl ?_
  refine v_getf (pc := 1) O ci11 h_a 2 rfl q729 (fun _ h => h) rfl dJ23_putVal_1 ?_
  refine v_dup (pc := 4) O dJ23_putVal_4 rfl ?_
  refine v_astoreN (pc := 5) (lv' := [(6, .null), (0, .ref a), (1, .int (hsh κ)), (2, .ref s), (3, .ref v), (4, .int 0), (5, .int 1)]) O dJ23_putVal_5 rfl rfl ?_
  refine v_ifnullN (pc := 7) O (tgt := 19) dJ23_putVal_7 (by decide) ?_
  refine v_aload_n (pc := 19) O dJ23_putVal_19 rfl ?_
  refine v_callV (pc := 20) (nA := 0) O (hm_resizeT (xL X) Γ hNN h_a) h_a rfl q1342 q1343 q1344 q78 q1345 (by decide +kernel) rfl rfl rfl rfl (Nat.le_of_ble_eq_true rfl) (by omega) (by omega) dJ23_putVal_20 (v_kR (fun r μ h => ?_))
  obtain ⟨h_a, hHN, hP, hU2⟩ := h
  have hU := hU.trans hU2
  have h_s := hU2.to h_s (Ne.symm hc1)
  have hHN0 := hHN
  obtain ⟨⟨f, h_tb, hf⟩, hN⟩ := hHN0
  have hcap := hP.cap
  have hs : cntK (emS N r) ≤ thrOf (HS.cap (emS N r)) := by rw [cnt_em]; exact Nat.zero_le _
  refine v_dup (pc := 23) O dJ23_putVal_23 rfl ?_
  refine v_astore (pc := 24) (lv' := [(6, .ref r), (0, .ref a), (1, .int (hsh κ)), (2, .ref s), (3, .ref v), (4, .int 0), (5, .int 1)]) O dJ23_putVal_24 rfl rfl ?_
  refine v_alen (pc := 26) O 6 rfl h_tb (v := nI N) rfl dJ23_putVal_26 ?_
  refine v_istore (pc := 27) (lv' := [(8, .int (nI N)), (6, .ref r), (0, .ref a), (1, .int (hsh κ)), (2, .ref s), (3, .ref v), (4, .int 0), (5, .int 1)]) O dJ23_putVal_27 rfl rfl ?_
  exact v_widen 1 64 (by omega) (by omega) (v_locs [2, 3, 4, 5, 6, 7, 1, 0] rfl (hm_put29 (S := emS N r) h_a hHN hP hs h_s hκ hU O hr))
/-- a map at a, tag c: its keys and values' addresses as S says -/
def HMp (Γ : Gm) (c a : Nat) (S : HS) (md : Int32) (μ : Mem) : Prop := ∃ ks es : Value, μ a = some (.inr (11, [ks, .null, .ref (HS.tb S), es, .int (nI (cntK S)), .int md, .int (nI (thrOf (HS.cap S))), .float LF]), c) ∧ HN Γ c S μ ∧ HPs S ∧ cntK S ≤ thrOf (HS.cap S)
def HMn (c a : Nat) (S : HS) (md : Int32) (μ : Mem) : Prop := (∀ k, S.P k = false) ∧ ∃ ks es : Value, μ a = some (.inr (11, [ks, .null, .null, es, .int 0, .int md, .int 0, .float LF]), c)
def HM (Γ : Gm) (c a : Nat) (S : HS) (μ : Mem) : Prop := ∃ md, HMp Γ c a S md μ ∨ HMn c a S md μ
theorem PutP.of0 {N : Nat} {S S' : HS} {κ v : Nat} (h : PutP (emS N 0) S' κ v) (hS : ∀ k, S.P k = false) : PutP S S' κ v := ⟨fun k => by rw [h.1 k, hS k]; rfl, h.2.1, fun k hk => by rw [hS k] at hk; cases hk⟩
theorem cnt_0 {S : HS} (h : ∀ k, S.P k = false) : cntK S = 0 := by
  have : ∀ n, cntP S.P n = 0 := fun n => by
    induction n with
    | zero => exact cntP_0
    | succ n ih => rw [cntP_s, if_neg (fun z => by rw [h n] at z; cases z)]; exact ih
  exact this 32
set_option maxHeartbeats 4000000 in
theorem hm_put (l : Launch) (Γ : Gm) {a c κ s v : Nat} {S : HS} {μ0 : Mem} (hM : HM Γ c a S μ0) (h_s : μ0 s = some (.inr (6, [.int (nI κ)]), 1)) (hκ : κ < 32) (hc1 : c ≠ 1) : MetV l Γ yJ23_put cJ23_put 3 (some (.object "java/lang/Object")) 5 3 160 [.ref a, .ref s, .ref v] μ0 (PQ (fun r μ1 => ∃ S' : HS, HM Γ c a S' μ1 ∧ PutP S S' κ v ∧ Upd c μ0 μ1)) := by
  refine MetV.of (by decide +kernel) rfl ?_
  intro X sz hl hr hnm O
  subst hl
  obtain ⟨md, ⟨ks, es, h_a, hHN, hP, hs⟩ | ⟨hS, ks, es, h_a⟩⟩ := hM
  · show V X Γ _ 3 _ 0 0 μ0 0 [(0, .ref a), (1, .ref s), (2, .ref v)] []
    refine v_aload_n (pc := 0) O dJ23_put_0 rfl ?_
    refine v_aload_n (pc := 1) O dJ23_put_1 rfl ?_
    refine v_callS (pc := 2) (nA := 1) O (hm_hash (xL X) Γ h_s hκ) q926 q927 q78 q928 (by decide +kernel) rfl rfl rfl rfl (Nat.le_of_ble_eq_true rfl) (by omega) (by omega) dJ23_put_2 (v_kI (fun x μ9 h => ?_))
    obtain ⟨rfl, rfl⟩ := h
    refine v_aload_n (pc := 5) O dJ23_put_5 rfl ?_
    refine v_aload_n (pc := 6) O dJ23_put_6 rfl ?_
    refine v_iconst (pc := 7) O (x := 0) dJ23_put_7 (by decide) ?_
    refine v_iconst (pc := 8) O (x := 1) dJ23_put_8 (by decide) ?_
    refine v_callV (pc := 9) (nA := 5) O (hm_putVal (xL X) Γ h_a hHN hP hs h_s hκ) h_a rfl q1426 q1427 q1428 q78 q1429 (by decide +kernel) rfl rfl rfl rfl (Nat.le_of_ble_eq_true rfl) (by omega) (by omega) dJ23_put_9 (v_kQ (fun r μ h => ?_))
    obtain ⟨S', md', g1, g2, g3, g4, g5, g6⟩ := h
    have hM2 : HM Γ c a S' μ := ⟨md', Or.inl ⟨ks, es, g1, g2, g3, g4⟩⟩
    exact v_aretQ (pc := 12) O hr (Or.inl ⟨_, rfl⟩) (by omega) (by omega) dJ23_put_12 ⟨r, rfl, ⟨S', hM2, g5, g6⟩⟩
  · show V X Γ _ 3 _ 0 0 μ0 0 [(0, .ref a), (1, .ref s), (2, .ref v)] []
    refine v_aload_n (pc := 0) O dJ23_put_0 rfl ?_
    refine v_aload_n (pc := 1) O dJ23_put_1 rfl ?_
    refine v_callS (pc := 2) (nA := 1) O (hm_hash (xL X) Γ h_s hκ) q926 q927 q78 q928 (by decide +kernel) rfl rfl rfl rfl (Nat.le_of_ble_eq_true rfl) (by omega) (by omega) dJ23_put_2 (v_kI (fun x μ9 h => ?_))
    obtain ⟨rfl, rfl⟩ := h
    refine v_aload_n (pc := 5) O dJ23_put_5 rfl ?_
    refine v_aload_n (pc := 6) O dJ23_put_6 rfl ?_
    refine v_iconst (pc := 7) O (x := 0) dJ23_put_7 (by decide) ?_
    refine v_iconst (pc := 8) O (x := 1) dJ23_put_8 (by decide) ?_
    refine v_callV (pc := 9) (nA := 5) O (hm_putVal16 (xL X) Γ (by rw [cnt_em]; exact h_a) h_s hκ hc1) h_a rfl q1426 q1427 q1428 q78 q1429 (by decide +kernel) rfl rfl rfl rfl (Nat.le_of_ble_eq_true rfl) (by omega) (by omega) dJ23_put_9 (v_kQ (fun r μ h => ?_))
    obtain ⟨S', md', g1, g2, g3, g4, g5, g6⟩ := h
    have g5 := g5.of0 hS
    have hM2 : HM Γ c a S' μ := ⟨md', Or.inl ⟨ks, es, g1, g2, g3, g4⟩⟩
    exact v_aretQ (pc := 12) O hr (Or.inl ⟨_, rfl⟩) (by omega) (by omega) dJ23_put_12 ⟨r, rfl, ⟨S', hM2, g5, g6⟩⟩
set_option maxHeartbeats 4000000 in
theorem hm_size (l : Launch) (Γ : Gm) {a c : Nat} {S : HS} {μ0 : Mem} (hM : HM Γ c a S μ0) : MetV l Γ yJ23_size cJ23_size 1 (some .int) 1 0 0 [.ref a] μ0 (PI (fun r μ1 => r = nI (cntK S) ∧ μ0 = μ1)) := by
  refine MetV.of (by decide +kernel) rfl ?_
  intro X sz hl hr hnm O
  subst hl
  obtain ⟨md, ⟨ks, es, h_a, hHN, hP, hs⟩ | ⟨hS, ks, es, h_a⟩⟩ := hM
  · show V X Γ _ 1 _ 0 0 μ0 0 [(0, .ref a)] []
    refine v_aload_n (pc := 0) O dJ23_size_0 rfl ?_
    refine v_getf (pc := 1) O ci11 h_a 4 rfl q732 (fun _ h => h) rfl dJ23_size_1 ?_
    exact v_iret (pc := 4) O hr (by omega) (by omega) dJ23_size_4 ⟨_, rfl, ⟨rfl, rfl⟩⟩
  · show V X Γ _ 1 _ 0 0 μ0 0 [(0, .ref a)] []
    refine v_aload_n (pc := 0) O dJ23_size_0 rfl ?_
    refine v_getf (pc := 1) O ci11 h_a 4 rfl q732 (fun _ h => h) rfl dJ23_size_1 ?_
    exact v_iret (pc := 4) O hr (by omega) (by omega) dJ23_size_4 ⟨_, rfl, ⟨by rw [cnt_0 hS]; rfl, rfl⟩⟩
set_option maxHeartbeats 4000000 in
theorem hm_isEmpty (l : Launch) (Γ : Gm) {a c : Nat} {S : HS} {μ0 : Mem} (hM : HM Γ c a S μ0) : MetV l Γ yJ23_isEmpty cJ23_isEmpty 1 (some .boolean) 1 0 0 [.ref a] μ0 (PI (fun r μ1 => r = b2i (decide (cntK S = 0)) ∧ μ0 = μ1)) := by
  refine MetV.of (by decide +kernel) rfl ?_
  intro X sz hl hr hnm O
  subst hl
  obtain ⟨md, ⟨ks, es, h_a, hHN, hP, hs⟩ | ⟨hS, ks, es, h_a⟩⟩ := hM
  · have h32 := cntK_32 S
    show V X Γ _ 1 _ 0 0 μ0 0 [(0, .ref a)] []
    refine v_aload_n (pc := 0) O dJ23_isEmpty_0 rfl ?_
    refine v_getf (pc := 1) O ci11 h_a 4 rfl q732 (fun _ h => h) rfl dJ23_isEmpty_1 ?_
    refine v_if_ne (pc := 4) (tgt := 11) O dJ23_isEmpty_4 (by decide) (fun c_4 => ?_) (fun c_4 => ?_)
    · have hn : ¬ cntK S = 0 := fun z => c_4 (by rw [z]; rfl)
      refine v_iconst (pc := 11) O (x := 0) dJ23_isEmpty_11 (by decide) ?_
      exact v_zret (pc := 12) O hr (by omega) (by omega) dJ23_isEmpty_12 rfl ⟨_, rfl, ⟨by simp [hn, b2i], rfl⟩⟩
    · have hn : cntK S = 0 := (nI_eq (b := 0) (by omega) (by omega)).mp c_4
      refine v_iconst (pc := 7) O (x := 1) dJ23_isEmpty_7 (by decide) ?_
      refine v_goto (pc := 8) O (tgt := 12) dJ23_isEmpty_8 (by decide) ?_
      exact v_zret (pc := 12) O hr (by omega) (by omega) dJ23_isEmpty_12 rfl ⟨_, rfl, ⟨by simp [hn, b2i], rfl⟩⟩
  · show V X Γ _ 1 _ 0 0 μ0 0 [(0, .ref a)] []
    refine v_aload_n (pc := 0) O dJ23_isEmpty_0 rfl ?_
    refine v_getf (pc := 1) O ci11 h_a 4 rfl q732 (fun _ h => h) rfl dJ23_isEmpty_1 ?_
    refine v_if_ne (pc := 4) (tgt := 11) O dJ23_isEmpty_4 (by decide) (fun c => absurd (by decide) c) (fun _ => ?_)
    refine v_iconst (pc := 7) O (x := 1) dJ23_isEmpty_7 (by decide) ?_
    refine v_goto (pc := 8) O (tgt := 12) dJ23_isEmpty_8 (by decide) ?_
    exact v_zret (pc := 12) O hr (by omega) (by omega) dJ23_isEmpty_12 rfl ⟨_, rfl, ⟨by rw [cnt_0 hS]; rfl, rfl⟩⟩
set_option maxHeartbeats 4000000 in
theorem hm_get (l : Launch) (Γ : Gm) {a c κ s : Nat} {S : HS} {μ0 : Mem} (hM : HM Γ c a S μ0) (h_s : μ0 s = some (.inr (6, [.int (nI κ)]), 1)) (hκ : κ < 32) : MetV l Γ yJ23_get cJ23_get 3 (some (.object "java/lang/Object")) 4 0 0 [.ref a, .ref s] μ0 (PQ (fun r μ1 => r = (if S.P κ = true then some (S.vl κ) else none) ∧ μ0 = μ1)) := by
  refine MetV.of (by decide +kernel) rfl ?_
  intro X sz hl hr hnm O
  subst hl
  obtain ⟨md, ⟨ks, es, h_a, hHN, hP, hs⟩ | ⟨hS, ks, es, h_a⟩⟩ := hM
  · show V X Γ _ 3 _ 0 0 μ0 0 [(0, .ref a), (1, .ref s)] []
    refine v_aload_n (pc := 0) O dJ23_get_0 rfl ?_
    refine v_aload_n (pc := 1) O dJ23_get_1 rfl ?_
    refine v_callV (pc := 2) (nA := 1) O (hm_getNode (xL X) Γ (tab := some (HS.tb S)) h_a (Or.inr ⟨rfl, hHN, hP⟩) h_s hκ) h_a rfl q922 q923 q924 q78 q925 (by decide +kernel) rfl rfl rfl rfl (Nat.le_of_ble_eq_true rfl) (by omega) (by omega) dJ23_get_2 (v_kQ (fun r μ9 h => ?_))
    obtain ⟨rfl, rfl⟩ := h
    refine v_dup (pc := 5) O dJ23_get_5 rf_cat ?_
    refine v_astore_nQ (pc := 6) (lv' := [(0, .ref a), (1, .ref s)]) O dJ23_get_6 rfl (fun v hv => rfl) ?_
    refine v_ifnonnullQ (pc := 7) (tgt := 14) O dJ23_get_7 (by decide) (fun x7_1 c_7 => ?_) (fun c_7 => ?_)
    · have hyes : S.P κ = true := by cases hz : S.P κ with | true => rfl | false => (rw [hz] at c_7; cases c_7)
      have hxe : S.nd κ = x7_1 := by rw [if_pos hyes] at c_7; exact Option.some.inj c_7
      subst hxe
      rw [c_7]
      have hN := hHN.2
      have h_nκ : μ0 (S.nd κ) = some (.inr (12, [.int (hsh κ), .ref (S.sp κ), .ref (S.vl κ), va_rf ((S.nx κ).map S.nd)]), c) := (hN κ hyes).1
      refine v_aload_n (pc := 14) O dJ23_get_14 rfl ?_
      refine v_getf (pc := 15) O ci12 h_nκ 2 rfl q1378 (fun _ h => h) rfl dJ23_get_15 ?_
      exact v_aret (pc := 18) O hr (Or.inl ⟨_, rfl⟩) (by omega) (by omega) dJ23_get_18 (Or.inr ⟨_, rfl⟩) ⟨(some (S.vl κ)), rfl, ⟨(if_pos hyes).symm, rfl⟩⟩
    · have hno : ¬ S.P κ = true := fun z => by rw [if_pos z] at c_7; cases c_7
      refine v_null (pc := 10) O dJ23_get_10 ?_
      refine v_goto (pc := 11) O (tgt := 18) dJ23_get_11 (by decide) ?_
      exact v_aret (pc := 18) O hr (Or.inl ⟨_, rfl⟩) (by omega) (by omega) dJ23_get_18 (Or.inl rfl) ⟨none, rfl, ⟨(if_neg hno).symm, rfl⟩⟩
  · show V X Γ _ 3 _ 0 0 μ0 0 [(0, .ref a), (1, .ref s)] []
    refine v_aload_n (pc := 0) O dJ23_get_0 rfl ?_
    refine v_aload_n (pc := 1) O dJ23_get_1 rfl ?_
    refine v_callV (pc := 2) (nA := 1) O (hm_getNode (xL X) Γ (S := S) (tab := none) h_a (Or.inl ⟨rfl, hS⟩) h_s hκ) h_a rfl q922 q923 q924 q78 q925 (by decide +kernel) rfl rfl rfl rfl (Nat.le_of_ble_eq_true rfl) (by omega) (by omega) dJ23_get_2 (v_kQ (fun r μ9 h => ?_))
    obtain ⟨rfl, rfl⟩ := h
    refine v_dup (pc := 5) O dJ23_get_5 rf_cat ?_
    refine v_astore_nQ (pc := 6) (lv' := [(0, .ref a), (1, .ref s)]) O dJ23_get_6 rfl (fun v hv => rfl) ?_
    refine v_ifnonnullQ (pc := 7) (tgt := 14) O dJ23_get_7 (by decide) (fun x7_2 c_7 => ?_) (fun c_7 => ?_)
    · have hyes : S.P κ = true := by cases hz : S.P κ with | true => rfl | false => (rw [hz] at c_7; cases c_7)
      have hxe : S.nd κ = x7_2 := by rw [if_pos hyes] at c_7; exact Option.some.inj c_7
      subst hxe
      rw [c_7]
      rw [hS κ] at hyes; cases hyes
    · have hno : ¬ S.P κ = true := fun z => by rw [if_pos z] at c_7; cases c_7
      refine v_null (pc := 10) O dJ23_get_10 ?_
      refine v_goto (pc := 11) O (tgt := 18) dJ23_get_11 (by decide) ?_
      exact v_aret (pc := 18) O hr (Or.inl ⟨_, rfl⟩) (by omega) (by omega) dJ23_get_18 (Or.inl rfl) ⟨none, rfl, ⟨(if_neg hno).symm, rfl⟩⟩
set_option maxHeartbeats 4000000 in
theorem hm_containsKey (l : Launch) (Γ : Gm) {a c κ s : Nat} {S : HS} {μ0 : Mem} (hM : HM Γ c a S μ0) (h_s : μ0 s = some (.inr (6, [.int (nI κ)]), 1)) (hκ : κ < 32) : MetV l Γ yJ23_containsKey cJ23_containsKey 2 (some .boolean) 4 0 0 [.ref a, .ref s] μ0 (PI (fun r μ1 => r = b2i (S.P κ) ∧ μ0 = μ1)) := by
  refine MetV.of (by decide +kernel) rfl ?_
  intro X sz hl hr hnm O
  subst hl
  obtain ⟨md, ⟨ks, es, h_a, hHN, hP, hs⟩ | ⟨hS, ks, es, h_a⟩⟩ := hM
  · show V X Γ _ 2 _ 0 0 μ0 0 [(0, .ref a), (1, .ref s)] []
    refine v_aload_n (pc := 0) O dJ23_containsKey_0 rfl ?_
    refine v_aload_n (pc := 1) O dJ23_containsKey_1 rfl ?_
    refine v_callV (pc := 2) (nA := 1) O (hm_getNode (xL X) Γ (tab := some (HS.tb S)) h_a (Or.inr ⟨rfl, hHN, hP⟩) h_s hκ) h_a rfl q922 q923 q924 q78 q925 (by decide +kernel) rfl rfl rfl rfl (Nat.le_of_ble_eq_true rfl) (by omega) (by omega) dJ23_containsKey_2 (v_kQ (fun r μ9 h => ?_))
    obtain ⟨rfl, rfl⟩ := h
    refine v_ifnullQ (pc := 5) (tgt := 12) O dJ23_containsKey_5 (by decide) (fun c_5 => ?_) (fun x5_1 c_5 => ?_)
    · have hno : ¬ S.P κ = true := fun z => by rw [if_pos z] at c_5; cases c_5
      refine v_iconst (pc := 12) O (x := 0) dJ23_containsKey_12 (by decide) ?_
      exact v_zret (pc := 13) O hr (by omega) (by omega) dJ23_containsKey_13 rfl ⟨_, rfl, ⟨by cases hz : S.P κ with | false => rfl | true => exact absurd hz hno, rfl⟩⟩
    · have hyes : S.P κ = true := by cases hz : S.P κ with | true => rfl | false => (rw [hz] at c_5; cases c_5)
      have hxe : S.nd κ = x5_1 := by rw [if_pos hyes] at c_5; exact Option.some.inj c_5
      subst hxe
      have hN := hHN.2
      have h_nκ : μ0 (S.nd κ) = some (.inr (12, [.int (hsh κ), .ref (S.sp κ), .ref (S.vl κ), va_rf ((S.nx κ).map S.nd)]), c) := (hN κ hyes).1
      refine v_iconst (pc := 8) O (x := 1) dJ23_containsKey_8 (by decide) ?_
      refine v_goto (pc := 9) O (tgt := 13) dJ23_containsKey_9 (by decide) ?_
      exact v_zret (pc := 13) O hr (by omega) (by omega) dJ23_containsKey_13 rfl ⟨_, rfl, ⟨by rw [hyes]; rfl, rfl⟩⟩
  · show V X Γ _ 2 _ 0 0 μ0 0 [(0, .ref a), (1, .ref s)] []
    refine v_aload_n (pc := 0) O dJ23_containsKey_0 rfl ?_
    refine v_aload_n (pc := 1) O dJ23_containsKey_1 rfl ?_
    refine v_callV (pc := 2) (nA := 1) O (hm_getNode (xL X) Γ (S := S) (tab := none) h_a (Or.inl ⟨rfl, hS⟩) h_s hκ) h_a rfl q922 q923 q924 q78 q925 (by decide +kernel) rfl rfl rfl rfl (Nat.le_of_ble_eq_true rfl) (by omega) (by omega) dJ23_containsKey_2 (v_kQ (fun r μ9 h => ?_))
    obtain ⟨rfl, rfl⟩ := h
    refine v_ifnullQ (pc := 5) (tgt := 12) O dJ23_containsKey_5 (by decide) (fun c_5 => ?_) (fun x5_2 c_5 => ?_)
    · have hno : ¬ S.P κ = true := fun z => by rw [if_pos z] at c_5; cases c_5
      refine v_iconst (pc := 12) O (x := 0) dJ23_containsKey_12 (by decide) ?_
      exact v_zret (pc := 13) O hr (by omega) (by omega) dJ23_containsKey_13 rfl ⟨_, rfl, ⟨by cases hz : S.P κ with | false => rfl | true => exact absurd hz hno, rfl⟩⟩
    · have hyes : S.P κ = true := by cases hz : S.P κ with | true => rfl | false => (rw [hz] at c_5; cases c_5)
      have hxe : S.nd κ = x5_2 := by rw [if_pos hyes] at c_5; exact Option.some.inj c_5
      subst hxe
      rw [hS κ] at hyes; cases hyes
set_option maxHeartbeats 4000000 in
theorem hm_absInit (l : Launch) (Γ : Gm) {a c : Nat} {μ0 : Mem} (h_a : μ0 a = some (.inr (11, [.null, .null, .null, .null, .int 0, .int 0, .int 0, .float 0]), c)) : MetV l Γ yJ22_init cJ22_init 1 none 1 0 0 [.ref a] μ0 (PV (fun μ1 => μ0 = μ1)) := by
  refine MetV.of (by decide +kernel) rfl ?_
  intro X sz hl hr hnm O
  subst hl
  show V X Γ _ 1 _ 0 0 μ0 0 [(0, .ref a)] []
  refine v_aload_n (pc := 0) O dJ22_init_0 rfl ?_
  refine v_objInit (pc := 1) O q726 q104 q105 rfl (Nat.le_of_ble_eq_true rfl) dJ22_init_1 ?_
  exact v_vret (pc := 4) O hr (by omega) (by omega) dJ22_init_4 ⟨rfl, rfl⟩
set_option maxHeartbeats 4000000 in
theorem hm_init (l : Launch) (Γ : Gm) {a c : Nat} {μ0 : Mem} (h_a : μ0 a = some (.inr (11, [.null, .null, .null, .null, .int 0, .int 0, .int 0, .float 0]), c)) : MetV l Γ yJ23_init cJ23_init 1 none 2 0 0 [.ref a] μ0 (PV (fun μ1 => HM Γ c a (emS 16 0) μ1 ∧ Upd c μ0 μ1)) := by
  refine MetV.of (by decide +kernel) rfl ?_
  intro X sz hl hr hnm O
  subst hl
  have hU : Upd c μ0 μ0 := Upd.rf
  show V X Γ _ 1 _ 0 0 μ0 0 [(0, .ref a)] []
  refine v_aload_n (pc := 0) O dJ23_init_0 rfl ?_
  refine v_callI (pc := 1) (nA := 0) O (hm_absInit (xL X) Γ h_a) q723 q724 q77 q725 rfl (by decide +kernel) rfl rfl rfl rfl (Nat.le_of_ble_eq_true rfl) (by omega) (by omega) dJ23_init_1 (v_kV (fun μ9 h => ?_))
  subst h
  refine v_aload_n (pc := 4) O dJ23_init_4 rfl ?_
  refine v_ldcf (pc := 5) O dJ23_init_5 q727 ?_
  refine w_putF (pc := 7) O hnm ci11 h_a 7 rfl q736 (fun _ h => h) rfl rfl rfl rfl rfl dJ23_init_7 (fun μ pp => ?_)
  have h_a : μ a = some (.inr (11, [.null, .null, .null, .null, .int 0, .int 0, .int 0, .float 1061158912]), c) := pp.2.1
  have hU := hU.trans (pp.upd rfl rfl)
  exact v_vret (pc := 10) O hr (by omega) (by omega) dJ23_init_10 ⟨rfl, ⟨⟨0, Or.inr ⟨fun _ => rfl, .null, .null, h_a⟩⟩, hU⟩⟩
theorem cnt_all {S : HS} (hP : HPs S) (h : cntK S = 0) : ∀ k, S.P k = false := fun k => by
  cases hz : S.P k with
  | false => rfl
  | true =>
    have h1 := len_cnt (p := S.P) 32 (l := [k]) (List.nodup_cons.mpr ⟨List.not_mem_nil, List.nodup_nil⟩) (fun z hz2 => by
      rcases List.mem_cons.mp hz2 with e | e
      · rw [e]; exact ⟨hP.2.1 k hz, hz⟩
      · cases e)
    unfold cntK at h
    rw [h] at h1
    exact absurd h1 (by simp)
set_option maxHeartbeats 4000000 in
theorem hm_clear (l : Launch) (Γ : Gm) {a c : Nat} {S : HS} {μ0 : Mem} (hM : HM Γ c a S μ0) : MetV l Γ yJ23_clear cJ23_clear 3 none 1 0 0 [.ref a] μ0 (PV (fun μ1 => ∃ S' : HS, HM Γ c a S' μ1 ∧ (∀ k, S'.P k = false) ∧ Upd c μ0 μ1)) := by
  refine MetV.of (by decide +kernel) rfl ?_
  intro X sz_ hl hr hnm O
  subst hl
  have hU : Upd c μ0 μ0 := Upd.rf
  obtain ⟨md, ⟨ks, es, h_a, hHN, hP, hs⟩ | ⟨hS, ks, es, h_a⟩⟩ := hM
  · have hN3 := hHN
    obtain ⟨⟨f, h_tb, hf⟩, hN⟩ := hHN
    have hcap := hP.cap
    have h32 := cntK_32 S
    show V X Γ _ 3 _ 0 0 μ0 0 [(0, .ref a)] []
    refine v_aload_n (pc := 0) O dJ23_clear_0 rfl ?_
    refine v_dup (pc := 1) O dJ23_clear_1 rfl ?_
    refine v_getf (pc := 2) O ci11 h_a 5 rfl q734 (fun _ h => h) rfl dJ23_clear_2 ?_
    refine v_iconst (pc := 5) O (x := 1) dJ23_clear_5 (by decide) ?_
    refine v_iadd (pc := 6) O dJ23_clear_6 ?_
    refine w_put (pc := 7) O ci11 h_a 5 rfl q734 (fun _ h => h) rfl rfl rfl rfl dJ23_clear_7 (fun μ pp => ?_)
    have hN3 := hN3.putO pp (by decide) (by decide)
    have h_tb := pp.oth h_tb (fun h => by cases h)
    have h_a : μ a = some (.inr (11, [ks, .null, .ref (HS.tb S), es, .int (nI (cntK S)), .int (md + 1), .int (nI (thrOf (HS.cap S))), .float LF]), c) := pp.2.1
    have hU := hU.trans (pp.upd rfl rfl)
    refine v_aload_n (pc := 10) O dJ23_clear_10 rfl ?_
    refine v_getf (pc := 11) O ci11 h_a 2 rfl q729 (fun _ h => h) rfl dJ23_clear_11 ?_
    refine v_dup (pc := 14) O dJ23_clear_14 rfl ?_
    refine v_astore_n (pc := 15) (lv' := [(1, .ref (HS.tb S)), (0, .ref a)]) O dJ23_clear_15 rfl rfl ?_
    refine v_ifnull (pc := 16) O dJ23_clear_16 ?_
    refine v_aload_n (pc := 19) O dJ23_clear_19 rfl ?_
    refine v_getf (pc := 20) O ci11 h_a 4 rfl q732 (fun _ h => h) rfl dJ23_clear_20 ?_
    refine v_if_le (pc := 23) (tgt := 49) O dJ23_clear_23 (by decide) (fun c_23 => ?_) (fun c_23 => ?_)
    · have hz0 : cntK S = 0 := by have := (nI_leI (b := 0) (by omega) (by omega)).mp c_23; omega
      exact v_vret (pc := 49) O hr (by omega) (by omega) dJ23_clear_49 ⟨rfl, ⟨S, ⟨md + 1, Or.inl ⟨ks, es, h_a, hN3, hP, hs⟩⟩, cnt_all hP hz0, hU⟩⟩
    · refine v_aload_n (pc := 26) O dJ23_clear_26 rfl ?_
      refine v_iconst (pc := 27) O (x := 0) dJ23_clear_27 (by decide) ?_
      refine w_put (pc := 28) O ci11 h_a 4 rfl q732 (fun _ h => h) rfl rfl rfl rfl dJ23_clear_28 (fun μ pp => ?_)
      have h_tb := pp.oth h_tb (fun h => by cases h)
      have h_a : μ a = some (.inr (11, [ks, .null, .ref (HS.tb S), es, .int 0, .int (md + 1), .int (nI (thrOf (HS.cap S))), .float LF]), c) := pp.2.1
      have hU := hU.trans (pp.upd rfl rfl)
      refine v_iconst (pc := 31) O (x := 0) dJ23_clear_31 (by decide) ?_
      refine v_istore_n (pc := 32) (lv' := [(2, .int 0), (1, .ref (HS.tb S)), (0, .ref a)]) O dJ23_clear_32 rfl rfl ?_
      have L33 : ∀ (d j : Nat) (f : Nat → Option Nat) (μ : Mem), HS.cap S < d + j → j ≤ HS.cap S → μ a = some (.inr (11, [ks, .null, .ref (HS.tb S), es, .int 0, .int (md + 1), .int (nI (thrOf (HS.cap S))), .float LF]), c) → μ (HS.tb S) = some (.inl (Γ.2.1 6, (HS.cap S), .inr (.inr (.inr (.inr f)))), c) → (∀ i, i < j → f i = none) → Upd c μ0 μ → V X Γ (gA μ0 sz_) 3 (QV X Γ μ0 sz_ (PV (fun μ1 => ∃ S' : HS, HM Γ c a S' μ1 ∧ (∀ k, S'.P k = false) ∧ Upd c μ0 μ1)) 0 0) 0 0 μ 33 [(0, .ref a), (1, .ref (HS.tb S)), (2, .int (nI j))] [] := by
        intro d
        induction d with
        | zero => intro j f μ h1 h2; exact absurd h1 (by omega)
        | succ d ih =>
          intro j f μ hdj hj h_a h_tb hf0 hU
          refine v_iload_n (pc := 33) O dJ23_clear_33 rfl ?_
          refine v_aload_n (pc := 34) O dJ23_clear_34 rfl ?_
          refine v_alen (pc := 35) O 6 rfl h_tb (v := nI (HS.cap S)) rfl dJ23_clear_35 ?_
          refine v_icmp_ge (pc := 36) (tgt := 49) O dJ23_clear_36 (by decide) (fun c_36 => ?_) (fun c_36 => ?_)
          · have hje : j = HS.cap S := by have := (nI_leI (by omega) (by omega)).mp c_36; omega
            subst hje
            exact v_vret (pc := 49) O hr (by omega) (by omega) dJ23_clear_49 ⟨rfl, ⟨emS (HS.cap S) (HS.tb S), ⟨md + 1, Or.inl ⟨ks, es, by rw [cnt_em]; exact h_a, ⟨⟨f, h_tb, fun i hi => hf0 i hi⟩, fun k hk => by cases hk⟩, emS_ok hP.1, by rw [cnt_em]; exact Nat.zero_le _⟩⟩, (fun _ => rfl), hU⟩⟩
          · have hjlt : j < HS.cap S := Nat.lt_of_not_le (fun z => c_36 (nI_le z (show j < 2 ^ 31 by omega)))
            refine v_aload_n (pc := 39) O dJ23_clear_39 rfl ?_
            refine v_iload_n (pc := 40) O dJ23_clear_40 rfl ?_
            refine v_null (pc := 41) O dJ23_clear_41 ?_
            refine w_astN (pc := 42) O 6 rfl h_tb (vp_in_nI hjlt (by omega)) dJ23_clear_42 (fun μ pp => ?_)
            rw [nI_clamp (show j < 2 ^ 31 by omega)] at pp
            have h_a := pp.oth h_a (fun h => by cases h)
            have h_tb : μ (HS.tb S) = some (.inl (Γ.2.1 6, (HS.cap S), .inr (.inr (.inr (.inr (va_up f j none))))), c) := pp.2.1
            have hU := hU.trans (pp.upd rfl rfl)
            refine v_iinc (pc := 43) (y := (nI (j + 1))) (lv' := [(2, .int (nI (j + 1))), (0, .ref a), (1, .ref (HS.tb S))]) O dJ23_clear_43 rfl (nI_inc _) rfl rfl ?_
            refine v_goto (pc := 46) O (tgt := 33) dJ23_clear_46 (by decide) ?_
            exact v_locs [1, 2, 0] rfl (ih (j + 1) (va_up f j none) μ (by omega) (by omega) h_a h_tb (fun i hi => by by_cases e : i = j; rw [e, va_up_self]; rw [va_up_ne _ _ e]; exact hf0 i (by omega)) hU)
      exact v_locs [2, 1, 0] rfl (L33 (HS.cap S + 1) 0 f μ (by omega) (by omega) h_a h_tb (fun i hi => absurd hi (Nat.not_lt_zero _)) hU)
  · show V X Γ _ 3 _ 0 0 μ0 0 [(0, .ref a)] []
    refine v_aload_n (pc := 0) O dJ23_clear_0 rfl ?_
    refine v_dup (pc := 1) O dJ23_clear_1 rfl ?_
    refine v_getf (pc := 2) O ci11 h_a 5 rfl q734 (fun _ h => h) rfl dJ23_clear_2 ?_
    refine v_iconst (pc := 5) O (x := 1) dJ23_clear_5 (by decide) ?_
    refine v_iadd (pc := 6) O dJ23_clear_6 ?_
    refine w_put (pc := 7) O ci11 h_a 5 rfl q734 (fun _ h => h) rfl rfl rfl rfl dJ23_clear_7 (fun μ pp => ?_)
    have h_a : μ a = some (.inr (11, [ks, .null, .null, es, .int 0, .int (md + 1), .int 0, .float LF]), c) := pp.2.1
    have hU := hU.trans (pp.upd rfl rfl)
    refine v_aload_n (pc := 10) O dJ23_clear_10 rfl ?_
    refine v_getf (pc := 11) O ci11 h_a 2 rfl q729 (fun _ h => h) rfl dJ23_clear_11 ?_
    refine v_dup (pc := 14) O dJ23_clear_14 rfl ?_
    refine v_astore_nN (pc := 15) (lv' := [(1, .null), (0, .ref a)]) O dJ23_clear_15 rfl rfl ?_
    refine v_ifnullN (pc := 16) O (tgt := 49) dJ23_clear_16 (by decide) ?_
    exact v_vret (pc := 49) O hr (by omega) (by omega) dJ23_clear_49 ⟨rfl, ⟨S, ⟨md + 1, Or.inr ⟨hS, ks, es, h_a⟩⟩, hS, hU⟩⟩
