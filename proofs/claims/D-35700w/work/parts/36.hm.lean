/-! HashMap, by contract (printed by gen/hm.py) -/
set_option maxRecDepth 100000
set_option maxHeartbeats 4000000 in
theorem hm_spotHash (l : Launch) (Γ : Gm) {s k ts : Nat} {μ0 : Mem} (h_s : μ0 s = some (.inr (6, [.int (nI k)]), ts)) (hk : k < 32) : MetV l Γ yX7_hashCode cX7_hashCode 1 (some .int) 1 0 0 [.ref s] μ0 (PI (fun r μ1 => r = hsh k ∧ μ0 = μ1)) := by
  refine MetV.of (by decide +kernel) rfl ?_
  intro X sz hl hr hnm O
  subst hl
  show V X Γ _ 1 _ 0 0 μ0 0 [(0, .ref s)] []
  refine v_bipush (pc := 0) O (x := 31) dX7_hashCode_0 (by decide) ?_
  refine v_aload_n (pc := 2) O dX7_hashCode_2 rfl ?_
  refine v_getf (pc := 3) O ci6 h_s 0 rfl q1758 (fun _ h => h) rfl dX7_hashCode_3 ?_
  refine v_imul (pc := 6) O dX7_hashCode_6 ?_
  refine v_bipush (pc := 7) O (x := 7) dX7_hashCode_7 (by decide) ?_
  refine w_iadd (pc := 9) O (hsh k) (hsh_of hk) dX7_hashCode_9 ?_
  exact v_iret (pc := 10) O hr (by omega) (by omega) dX7_hashCode_10 ⟨_, rfl, ⟨rfl, rfl⟩⟩
set_option maxHeartbeats 4000000 in
theorem hm_spotEq (l : Launch) (Γ : Gm) {s o k j ts to : Nat} {μ0 : Mem} (h_s : μ0 s = some (.inr (6, [.int (nI k)]), ts)) (h_o : μ0 o = some (.inr (6, [.int (nI j)]), to)) (hk : k < 32) (hj : j < 32) : MetV l Γ yX7_equals cX7_equals 2 (some .boolean) 1 0 0 [.ref s, .ref o] μ0 (PI (fun r μ1 => r = b2i (decide (j = k)) ∧ μ0 = μ1)) := by
  refine MetV.of (by decide +kernel) rfl ?_
  intro X sz hl hr hnm O
  subst hl
  show V X Γ _ 2 _ 0 0 μ0 0 [(0, .ref s), (1, .ref o)] []
  refine v_aload_n (pc := 0) O dX7_equals_0 rfl ?_
  refine w_instS (pc := 1) O h_o rfl q1030 dX7_equals_1 ?_
  refine v_if_eq (pc := 4) (tgt := 25) O dX7_equals_4 (by decide) (fun c => absurd c (by decide)) (fun _ => ?_)
  refine v_aload_n (pc := 7) O dX7_equals_7 rfl ?_
  refine w_castS (pc := 8) O h_o rfl q1030 dX7_equals_8 ?_
  refine v_getf (pc := 11) O ci6 h_o 0 rfl q1758 (fun _ h => h) rfl dX7_equals_11 ?_
  refine v_aload_n (pc := 14) O dX7_equals_14 rfl ?_
  refine v_getf (pc := 15) O ci6 h_s 0 rfl q1758 (fun _ h => h) rfl dX7_equals_15 ?_
  refine v_icmp_ne (pc := 18) (tgt := 25) O dX7_equals_18 (by decide) (fun c_18 => ?_) (fun c_18 => ?_)
  · have hn : ¬ j = k := fun z => c_18 (by rw [z])
    refine v_iconst (pc := 25) O (x := 0) dX7_equals_25 (by decide) ?_
    exact v_zret (pc := 26) O hr (by omega) (by omega) dX7_equals_26 rfl ⟨_, rfl, ⟨by simp [hn, b2i], rfl⟩⟩
  · have hn : j = k := (nI_eq (by omega) (by omega)).mp c_18
    refine v_iconst (pc := 21) O (x := 1) dX7_equals_21 (by decide) ?_
    refine v_goto (pc := 22) O (tgt := 26) dX7_equals_22 (by decide) ?_
    exact v_zret (pc := 26) O hr (by omega) (by omega) dX7_equals_26 rfl ⟨_, rfl, ⟨by simp [hn, b2i], rfl⟩⟩
set_option maxHeartbeats 4000000 in
theorem hm_hash (l : Launch) (Γ : Gm) {s k ts : Nat} {μ0 : Mem} (h_s : μ0 s = some (.inr (6, [.int (nI k)]), ts)) (hk : k < 32) : MetV l Γ yJ23_hash cJ23_hash 2 (some .int) 2 0 0 [.ref s] μ0 (PI (fun r μ1 => r = hsh k ∧ μ0 = μ1)) := by
  refine MetV.of (by decide +kernel) rfl ?_
  intro X sz hl hr hnm O
  subst hl
  show V X Γ _ 2 _ 0 0 μ0 0 [(0, .ref s)] []
  refine v_aload_n (pc := 0) O dJ23_hash_0 rfl ?_
  refine v_ifnonnull (pc := 1) O (tgt := 8) dJ23_hash_1 (by decide) ?_
  refine v_aload_n (pc := 8) O dJ23_hash_8 rfl ?_
  refine v_callU (pc := 9) (nA := 0) (owner := "java/lang/Object") O (hm_spotHash (xL X) Γ h_s hk) h_s rfl (lw5 q930 q932 q938 q939 q79) q940 (Or.inr q929) (by decide +kernel) rfl rfl rfl rfl (Nat.le_of_ble_eq_true rfl) (by omega) (by omega) dJ23_hash_9 (v_kI (fun x μ9 h => ?_))
  obtain ⟨rfl, rfl⟩ := h
  refine v_dup (pc := 12) O dJ23_hash_12 rfl ?_
  refine v_istore_n (pc := 13) (lv' := [(1, .int (hsh k)), (0, .ref s)]) O dJ23_hash_13 rfl rfl ?_
  refine v_iload_n (pc := 14) O dJ23_hash_14 rfl ?_
  refine v_bipush (pc := 15) O (x := 16) dJ23_hash_15 (by decide) ?_
  refine w_iushr (pc := 17) O ((hsh k).toUInt32 >>> ((16 : Int32).toUInt32 &&& Int32.toUInt32 31)).toInt32 rfl dJ23_hash_17 ?_
  refine w_ixor (pc := 18) O (hsh k) (hsh_x hk) dJ23_hash_18 ?_
  exact v_iret (pc := 19) O hr (by omega) (by omega) dJ23_hash_19 ⟨_, rfl, ⟨rfl, rfl⟩⟩
theorem gn_yes {S : HS} {k κ : Nat} (e : k = κ) (h : S.P k = true) : some (S.nd k) = if S.P κ = true then some (S.nd κ) else none := by
  subst e
  rw [if_pos h]
theorem gn_no {S : HS} {κ : Nat} (h : ¬ S.P κ = true) : none = if S.P κ = true then some (S.nd κ) else none := (if_neg h).symm
set_option maxHeartbeats 4000000 in
theorem hm_getNode (l : Launch) (Γ : Gm) {a κ s ts c : Nat} {ks es : Value} {sz md th : Int32} {S : HS} {tab : Option Nat} {μ0 : Mem} (h_a : μ0 a = some (.inr (11, [ks, .null, va_rf tab, es, .int sz, .int md, .int th, .float LF]), c)) (hT : HTb Γ c S tab μ0) (h_s : μ0 s = some (.inr (6, [.int (nI κ)]), ts)) (hκ : κ < 32) : MetV l Γ yJ23_getNode cJ23_getNode 8 (some (.object "java/util/HashMap$Node")) 3 0 0 [.ref a, .ref s] μ0 (PQ (fun r μ1 => r = (if S.P κ = true then some (S.nd κ) else none) ∧ μ0 = μ1)) := by
  refine MetV.of (by decide +kernel) rfl ?_
  intro X sz_ hl hr hnm O
  subst hl
  rcases hT with ⟨rfl, hT⟩ | ⟨rfl, ⟨⟨f, h_tb, hf⟩, hN⟩, hP⟩
  · have hno : ¬ S.P κ = true := by rw [hT κ]; exact fun z => by cases z
    show V X Γ _ 8 _ 0 0 μ0 0 [(0, .ref a), (1, .ref s)] []
    refine v_aload_n (pc := 0) O dJ23_getNode_0 rfl ?_
    refine v_getf (pc := 1) O ci11 h_a 2 rfl q729 (fun _ h => h) rfl dJ23_getNode_1 ?_
    refine v_dup (pc := 4) O dJ23_getNode_4 rfl ?_
    refine v_astore_nN (pc := 5) (lv' := [(2, .null), (0, .ref a), (1, .ref s)]) O dJ23_getNode_5 rfl rfl ?_
    refine v_ifnullN (pc := 6) O (tgt := 148) dJ23_getNode_6 (by decide) ?_
    refine v_null (pc := 148) O dJ23_getNode_148 ?_
    exact v_aret (pc := 149) O hr (Or.inl ⟨_, rfl⟩) (by omega) (by omega) dJ23_getNode_149 (Or.inl rfl) ⟨none, rfl, ⟨gn_no hno, rfl⟩⟩
  · have hcap := hP.cap
    have hb := bk_lt hP κ
    show V X Γ _ 8 _ 0 0 μ0 0 [(0, .ref a), (1, .ref s)] []
    refine v_aload_n (pc := 0) O dJ23_getNode_0 rfl ?_
    refine v_getf (pc := 1) O ci11 h_a 2 rfl q729 (fun _ h => h) rfl dJ23_getNode_1 ?_
    refine v_dup (pc := 4) O dJ23_getNode_4 rfl ?_
    refine v_astore_n (pc := 5) (lv' := [(2, .ref S.tb), (0, .ref a), (1, .ref s)]) O dJ23_getNode_5 rfl rfl ?_
    refine v_ifnull (pc := 6) O dJ23_getNode_6 ?_
    refine v_aload_n (pc := 9) O dJ23_getNode_9 rfl ?_
    refine v_alen (pc := 10) O 6 rfl h_tb (v := nI S.cap) rfl dJ23_getNode_10 ?_
    refine v_dup (pc := 11) O dJ23_getNode_11 rfl ?_
    refine v_istore (pc := 12) (lv' := [(5, .int (nI S.cap)), (2, .ref S.tb), (0, .ref a), (1, .ref s)]) O dJ23_getNode_12 rfl rfl ?_
    refine v_if_le (pc := 14) (tgt := 148) O dJ23_getNode_14 (by decide) (fun c => absurd c (nI_nle0 (by omega) (by omega))) (fun _ => ?_)
    refine v_aload_n (pc := 17) O dJ23_getNode_17 rfl ?_
    refine v_iload (pc := 18) O dJ23_getNode_18 rfl ?_
    refine v_iconst (pc := 20) O (x := 1) dJ23_getNode_20 (by decide) ?_
    refine w_isub (pc := 21) O (nI (S.cap - 1)) (nI_sub1 (by omega) (by omega)) dJ23_getNode_21 ?_
    refine v_aload_n (pc := 22) O dJ23_getNode_22 rfl ?_
    refine v_callS (pc := 23) (nA := 1) O (hm_hash (xL X) Γ h_s hκ) q926 q927 q78 q928 (by decide +kernel) rfl rfl rfl rfl (Nat.le_of_ble_eq_true rfl) (by omega) (by omega) dJ23_getNode_23 (v_kI (fun x μ9 h => ?_))
    obtain ⟨rfl, rfl⟩ := h
    refine v_dup (pc := 26) O dJ23_getNode_26 rfl ?_
    refine v_istore (pc := 27) (lv' := [(6, .int (hsh κ)), (5, .int (nI S.cap)), (2, .ref S.tb), (0, .ref a), (1, .ref s)]) O dJ23_getNode_27 rfl rfl ?_
    refine w_iand (pc := 29) O (nI (bk κ S.cap)) (bk_and hP hκ) dJ23_getNode_29 ?_
    rcases hh : S.hd (bk κ S.cap) with _ | k0
    · have hno : ¬ S.P κ = true := fun z => by have h9 := (hP.2.2 _ hb).1; rw [hh] at h9; have h8 := hP.in.mpr z; rw [h9.nil] at h8; cases h8
      refine w_aldq (pc := 30) O 6 rfl h_tb (vp_in_nI hb (by omega)) (v := .null) (by rw [nI_clamp (show bk κ S.cap < 2 ^ 31 by omega), hf _ hb, hh]; rfl) dJ23_getNode_30 ?_
      refine v_dup (pc := 31) O dJ23_getNode_31 rfl ?_
      refine v_astore_nN (pc := 32) (lv' := [(3, .null), (6, .int (hsh κ)), (5, .int (nI S.cap)), (2, .ref S.tb), (0, .ref a), (1, .ref s)]) O dJ23_getNode_32 rfl rfl ?_
      refine v_ifnullN (pc := 33) O (tgt := 148) dJ23_getNode_33 (by decide) ?_
      refine v_null (pc := 148) O dJ23_getNode_148 ?_
      exact v_aret (pc := 149) O hr (Or.inl ⟨_, rfl⟩) (by omega) (by omega) dJ23_getNode_149 (Or.inl rfl) ⟨none, rfl, ⟨gn_no hno, rfl⟩⟩
    · obtain ⟨l0, hl0, hp0⟩ : ∃ r, S.B (bk κ S.cap) = k0 :: r ∧ Path S.nx (S.nx k0) r := by have h9 := (hP.2.2 _ hb).1; rw [hh] at h9; exact h9.cons
      have hm0 : ∀ z ∈ k0 :: l0, S.P z = true := fun z hz => (((hP.2.2 _ hb).2.2 z).mp (by rw [hl0]; exact hz)).1
      have hi0 : S.P κ = true ↔ κ ∈ k0 :: l0 := by rw [← hl0]; exact hP.in.symm
      have hbk0 := hP.2.1 k0 (hm0 k0 List.mem_cons_self)
      have h_nk0 : μ0 (S.nd k0) = some (.inr (12, [.int (hsh k0), .ref (S.sp k0), .ref (S.vl k0), va_rf ((S.nx k0).map S.nd)]), c) := (hN k0 (hm0 k0 List.mem_cons_self)).1
      have h_sk0 : μ0 (S.sp k0) = some (.inr (6, [.int (nI k0)]), 1) := (hN k0 (hm0 k0 List.mem_cons_self)).2
      refine w_aldq (pc := 30) O 6 rfl h_tb (vp_in_nI hb (by omega)) (v := .ref (S.nd k0)) (by rw [nI_clamp (show bk κ S.cap < 2 ^ 31 by omega), hf _ hb, hh]; rfl) dJ23_getNode_30 ?_
      refine v_dup (pc := 31) O dJ23_getNode_31 rfl ?_
      refine v_astore_n (pc := 32) (lv' := [(3, .ref (S.nd k0)), (6, .int (hsh κ)), (5, .int (nI S.cap)), (2, .ref S.tb), (0, .ref a), (1, .ref s)]) O dJ23_getNode_32 rfl rfl ?_
      refine v_ifnull (pc := 33) O dJ23_getNode_33 ?_
      refine v_aload_n (pc := 36) O dJ23_getNode_36 rfl ?_
      refine v_getf (pc := 37) O ci12 h_nk0 0 rfl q1371 (fun _ h => h) rfl dJ23_getNode_37 ?_
      refine v_iload (pc := 40) O dJ23_getNode_40 rfl ?_
      refine v_icmp_ne (pc := 42) (tgt := 71) O dJ23_getNode_42 (by decide) (fun c_42 => ?_) (fun c_42 => ?_)
      · rcases hx : S.nx k0 with _ | k1
        · rw [hx] at hp0 h_nk0
          have hno : ¬ S.P κ = true := fun z => by have h8 := hi0.mp z; rw [hp0.nil] at h8; exact (List.mem_cons.mp h8).elim (fun h7 => c_42 (by rw [h7])) (fun h7 => by cases h7)
          have h_nk0 : μ0 (S.nd k0) = some (.inr (12, [.int (hsh k0), .ref (S.sp k0), .ref (S.vl k0), .null]), c) := h_nk0
          refine v_aload_n (pc := 71) O dJ23_getNode_71 rfl ?_
          refine v_getf (pc := 72) O ci12 h_nk0 3 rfl q1384 (fun _ h => h) rfl dJ23_getNode_72 ?_
          refine v_dup (pc := 75) O dJ23_getNode_75 rfl ?_
          refine v_astoreN (pc := 76) (lv' := [(4, .null), (3, .ref (S.nd k0)), (6, .int (hsh κ)), (5, .int (nI S.cap)), (2, .ref S.tb), (0, .ref a), (1, .ref s)]) O dJ23_getNode_76 rfl rfl ?_
          refine v_ifnullN (pc := 78) O (tgt := 148) dJ23_getNode_78 (by decide) ?_
          refine v_null (pc := 148) O dJ23_getNode_148 ?_
          exact v_aret (pc := 149) O hr (Or.inl ⟨_, rfl⟩) (by omega) (by omega) dJ23_getNode_149 (Or.inl rfl) ⟨none, rfl, ⟨gn_no hno, rfl⟩⟩
        · rw [hx] at hp0 h_nk0
          obtain ⟨l1, rfl, hp1⟩ := hp0.cons
          have h_nk0 : μ0 (S.nd k0) = some (.inr (12, [.int (hsh k0), .ref (S.sp k0), .ref (S.vl k0), .ref (S.nd k1)]), c) := h_nk0
          refine v_aload_n (pc := 71) O dJ23_getNode_71 rfl ?_
          refine v_getf (pc := 72) O ci12 h_nk0 3 rfl q1384 (fun _ h => h) rfl dJ23_getNode_72 ?_
          refine v_dup (pc := 75) O dJ23_getNode_75 rfl ?_
          refine v_astore (pc := 76) (lv' := [(4, .ref (S.nd k1)), (3, .ref (S.nd k0)), (6, .int (hsh κ)), (5, .int (nI S.cap)), (2, .ref S.tb), (0, .ref a), (1, .ref s)]) O dJ23_getNode_76 rfl rfl ?_
          refine v_ifnull (pc := 78) O dJ23_getNode_78 ?_
          refine v_aload_n (pc := 81) O dJ23_getNode_81 rfl ?_
          refine w_instN (pc := 82) O h_nk0 q1057 dJ23_getNode_82 ?_
          refine v_if_eq (pc := 85) (tgt := 99) O dJ23_getNode_85 (by decide) (fun _ => ?_) (fun c => absurd (by decide) c)
          have L99 : ∀ (l : List Nat) (k : Nat), Path S.nx (S.nx k) l → (∀ z ∈ k :: l, S.P z = true) → (S.P κ = true ↔ κ ∈ k :: l) → V X Γ (gA μ0 sz_) 8 (QV X Γ μ0 sz_ (PQ (fun r μ1 => r = (if S.P κ = true then some (S.nd κ) else none) ∧ μ0 = μ1)) 0 0) 0 0 μ0 99 [(4, .ref (S.nd k)), (3, .ref (S.nd k0)), (6, .int (hsh κ)), (5, .int (nI S.cap)), (2, .ref S.tb), (0, .ref a), (1, .ref s)] [] := by
            intro l
            induction l with
            | nil =>
              intro k hp hm hi
              have hbk := hP.2.1 k (hm k List.mem_cons_self)
              have h_nk : μ0 (S.nd k) = some (.inr (12, [.int (hsh k), .ref (S.sp k), .ref (S.vl k), .null]), c) := (by have h9 := (hN k (hm k List.mem_cons_self)).1; rw [show S.nx k = none from hp] at h9; exact h9)
              have h_sk : μ0 (S.sp k) = some (.inr (6, [.int (nI k)]), 1) := (hN k (hm k List.mem_cons_self)).2
              refine v_aload (pc := 99) O dJ23_getNode_99 rfl ?_
              refine v_getf (pc := 101) O ci12 h_nk 0 rfl q1371 (fun _ h => h) rfl dJ23_getNode_101 ?_
              refine v_iload (pc := 104) O dJ23_getNode_104 rfl ?_
              refine v_icmp_ne (pc := 106) (tgt := 137) O dJ23_getNode_106 (by decide) (fun c_106 => ?_) (fun c_106 => ?_)
              · refine v_aload (pc := 137) O dJ23_getNode_137 rfl ?_
                refine v_getf (pc := 139) O ci12 h_nk 3 rfl q1384 (fun _ h => h) rfl dJ23_getNode_139 ?_
                refine v_dup (pc := 142) O dJ23_getNode_142 rfl ?_
                refine v_astoreN (pc := 143) (lv' := [(4, .null), (3, .ref (S.nd k0)), (6, .int (hsh κ)), (5, .int (nI S.cap)), (2, .ref S.tb), (0, .ref a), (1, .ref s)]) O dJ23_getNode_143 rfl rfl ?_
                refine v_ifnonnullN (pc := 145) O dJ23_getNode_145 ?_
                refine v_null (pc := 148) O dJ23_getNode_148 ?_
                have hno : ¬ S.P κ = true := fun z => (List.mem_cons.mp (hi.mp z)).elim (fun h7 => c_106 (by rw [h7])) (fun h7 => by cases h7)
                exact v_aret (pc := 149) O hr (Or.inl ⟨_, rfl⟩) (by omega) (by omega) dJ23_getNode_149 (Or.inl rfl) ⟨none, rfl, ⟨gn_no hno, rfl⟩⟩
              · have hek : k = κ := hsh_inj hbk hκ c_106
                refine v_aload (pc := 109) O dJ23_getNode_109 rfl ?_
                refine v_getf (pc := 111) O ci12 h_nk 1 rfl q1376 (fun _ h => h) rfl dJ23_getNode_111 ?_
                refine v_dup (pc := 114) O dJ23_getNode_114 rfl ?_
                refine v_astore (pc := 115) (lv' := [(7, .ref (S.sp k)), (4, .ref (S.nd k)), (3, .ref (S.nd k0)), (6, .int (hsh κ)), (5, .int (nI S.cap)), (2, .ref S.tb), (0, .ref a), (1, .ref s)]) O dJ23_getNode_115 rfl rfl ?_
                refine v_aload_n (pc := 117) O dJ23_getNode_117 rfl ?_
                refine v_acmp_eq (pc := 118) (tgt := 134) (rx := (some (S.sp k))) (ry := (some s)) O dJ23_getNode_118 (by decide) (fun c_118_1 => ?_) (fun c_118_1 => ?_)
                · refine v_aload (pc := 134) O dJ23_getNode_134 rfl ?_
                  exact v_aret (pc := 136) O hr (Or.inl ⟨_, rfl⟩) (by omega) (by omega) dJ23_getNode_136 (Or.inr ⟨_, rfl⟩) ⟨(some (S.nd k)), rfl, ⟨gn_yes hek (hm k List.mem_cons_self), rfl⟩⟩
                · refine v_aload_n (pc := 121) O dJ23_getNode_121 rfl ?_
                  refine v_ifnull (pc := 122) O dJ23_getNode_122 ?_
                  refine v_aload_n (pc := 125) O dJ23_getNode_125 rfl ?_
                  refine v_aload (pc := 126) O dJ23_getNode_126 rfl ?_
                  refine v_callU (pc := 128) (nA := 1) (owner := "java/lang/Object") O (hm_spotEq (xL X) Γ h_s h_sk hκ hbk) h_s rfl (lw5 q1019 q1021 q1027 q1028 q79) q1029 (Or.inr q1018) (by decide +kernel) rfl rfl rfl rfl (Nat.le_of_ble_eq_true rfl) (by omega) (by omega) dJ23_getNode_128 (v_kI (fun x μ9 h => ?_))
                  obtain ⟨h9, rfl⟩ := h
                  rw [decide_eq_true hek] at h9
                  obtain rfl : x = 1 := h9
                  refine v_if_eq (pc := 131) (tgt := 137) O dJ23_getNode_131 (by decide) (fun c => absurd c (by decide)) (fun _ => ?_)
                  refine v_aload (pc := 134) O dJ23_getNode_134 rfl ?_
                  exact v_aret (pc := 136) O hr (Or.inl ⟨_, rfl⟩) (by omega) (by omega) dJ23_getNode_136 (Or.inr ⟨_, rfl⟩) ⟨(some (S.nd k)), rfl, ⟨gn_yes hek (hm k List.mem_cons_self), rfl⟩⟩
            | cons k1 l ih =>
              intro k hp hm hi
              have hbk := hP.2.1 k (hm k List.mem_cons_self)
              have h_nk : μ0 (S.nd k) = some (.inr (12, [.int (hsh k), .ref (S.sp k), .ref (S.vl k), .ref (S.nd k1)]), c) := (by have h9 := (hN k (hm k List.mem_cons_self)).1; rw [hp.1] at h9; exact h9)
              have h_sk : μ0 (S.sp k) = some (.inr (6, [.int (nI k)]), 1) := (hN k (hm k List.mem_cons_self)).2
              refine v_aload (pc := 99) O dJ23_getNode_99 rfl ?_
              refine v_getf (pc := 101) O ci12 h_nk 0 rfl q1371 (fun _ h => h) rfl dJ23_getNode_101 ?_
              refine v_iload (pc := 104) O dJ23_getNode_104 rfl ?_
              refine v_icmp_ne (pc := 106) (tgt := 137) O dJ23_getNode_106 (by decide) (fun c_106 => ?_) (fun c_106 => ?_)
              · refine v_aload (pc := 137) O dJ23_getNode_137 rfl ?_
                refine v_getf (pc := 139) O ci12 h_nk 3 rfl q1384 (fun _ h => h) rfl dJ23_getNode_139 ?_
                refine v_dup (pc := 142) O dJ23_getNode_142 rfl ?_
                refine v_astore (pc := 143) (lv' := [(4, .ref (S.nd k1)), (3, .ref (S.nd k0)), (6, .int (hsh κ)), (5, .int (nI S.cap)), (2, .ref S.tb), (0, .ref a), (1, .ref s)]) O dJ23_getNode_143 rfl rfl ?_
                refine v_ifnonnull (pc := 145) O (tgt := 99) dJ23_getNode_145 (by decide) ?_
                exact v_locs [0, 1, 2, 3, 4, 5, 6] rfl (ih k1 hp.2 (fun z hz => hm z (List.mem_cons_of_mem _ hz)) (hi.trans ⟨fun z => (List.mem_cons.mp z).resolve_left (fun z2 => c_106 (by rw [z2])), fun z => List.mem_cons_of_mem _ z⟩))
              · have hek : k = κ := hsh_inj hbk hκ c_106
                refine v_aload (pc := 109) O dJ23_getNode_109 rfl ?_
                refine v_getf (pc := 111) O ci12 h_nk 1 rfl q1376 (fun _ h => h) rfl dJ23_getNode_111 ?_
                refine v_dup (pc := 114) O dJ23_getNode_114 rfl ?_
                refine v_astore (pc := 115) (lv' := [(7, .ref (S.sp k)), (4, .ref (S.nd k)), (3, .ref (S.nd k0)), (6, .int (hsh κ)), (5, .int (nI S.cap)), (2, .ref S.tb), (0, .ref a), (1, .ref s)]) O dJ23_getNode_115 rfl rfl ?_
                refine v_aload_n (pc := 117) O dJ23_getNode_117 rfl ?_
                refine v_acmp_eq (pc := 118) (tgt := 134) (rx := (some (S.sp k))) (ry := (some s)) O dJ23_getNode_118 (by decide) (fun c_118_2 => ?_) (fun c_118_2 => ?_)
                · refine v_aload (pc := 134) O dJ23_getNode_134 rfl ?_
                  exact v_aret (pc := 136) O hr (Or.inl ⟨_, rfl⟩) (by omega) (by omega) dJ23_getNode_136 (Or.inr ⟨_, rfl⟩) ⟨(some (S.nd k)), rfl, ⟨gn_yes hek (hm k List.mem_cons_self), rfl⟩⟩
                · refine v_aload_n (pc := 121) O dJ23_getNode_121 rfl ?_
                  refine v_ifnull (pc := 122) O dJ23_getNode_122 ?_
                  refine v_aload_n (pc := 125) O dJ23_getNode_125 rfl ?_
                  refine v_aload (pc := 126) O dJ23_getNode_126 rfl ?_
                  refine v_callU (pc := 128) (nA := 1) (owner := "java/lang/Object") O (hm_spotEq (xL X) Γ h_s h_sk hκ hbk) h_s rfl (lw5 q1019 q1021 q1027 q1028 q79) q1029 (Or.inr q1018) (by decide +kernel) rfl rfl rfl rfl (Nat.le_of_ble_eq_true rfl) (by omega) (by omega) dJ23_getNode_128 (v_kI (fun x μ9 h => ?_))
                  obtain ⟨h9, rfl⟩ := h
                  rw [decide_eq_true hek] at h9
                  obtain rfl : x = 1 := h9
                  refine v_if_eq (pc := 131) (tgt := 137) O dJ23_getNode_131 (by decide) (fun c => absurd c (by decide)) (fun _ => ?_)
                  refine v_aload (pc := 134) O dJ23_getNode_134 rfl ?_
                  exact v_aret (pc := 136) O hr (Or.inl ⟨_, rfl⟩) (by omega) (by omega) dJ23_getNode_136 (Or.inr ⟨_, rfl⟩) ⟨(some (S.nd k)), rfl, ⟨gn_yes hek (hm k List.mem_cons_self), rfl⟩⟩
          exact v_locs [0, 1, 2, 3, 4, 5, 6] rfl (L99 l1 k1 hp1 (fun z hz => hm0 z (List.mem_cons_of_mem _ hz)) (hi0.trans ⟨fun z => (List.mem_cons.mp z).resolve_left (fun z2 => c_42 (by rw [z2])), fun z => List.mem_cons_of_mem _ z⟩))
      · have hek0 : k0 = κ := hsh_inj hbk0 hκ c_42
        refine v_aload_n (pc := 45) O dJ23_getNode_45 rfl ?_
        refine v_getf (pc := 46) O ci12 h_nk0 1 rfl q1376 (fun _ h => h) rfl dJ23_getNode_46 ?_
        refine v_dup (pc := 49) O dJ23_getNode_49 rfl ?_
        refine v_astore (pc := 50) (lv' := [(7, .ref (S.sp k0)), (3, .ref (S.nd k0)), (6, .int (hsh κ)), (5, .int (nI S.cap)), (2, .ref S.tb), (0, .ref a), (1, .ref s)]) O dJ23_getNode_50 rfl rfl ?_
        refine v_aload_n (pc := 52) O dJ23_getNode_52 rfl ?_
        refine v_acmp_eq (pc := 53) (tgt := 69) (rx := (some (S.sp k0))) (ry := (some s)) O dJ23_getNode_53 (by decide) (fun c_53_3 => ?_) (fun c_53_3 => ?_)
        · refine v_aload_n (pc := 69) O dJ23_getNode_69 rfl ?_
          exact v_aret (pc := 70) O hr (Or.inl ⟨_, rfl⟩) (by omega) (by omega) dJ23_getNode_70 (Or.inr ⟨_, rfl⟩) ⟨(some (S.nd k0)), rfl, ⟨gn_yes hek0 (hm0 k0 List.mem_cons_self), rfl⟩⟩
        · refine v_aload_n (pc := 56) O dJ23_getNode_56 rfl ?_
          refine v_ifnull (pc := 57) O dJ23_getNode_57 ?_
          refine v_aload_n (pc := 60) O dJ23_getNode_60 rfl ?_
          refine v_aload (pc := 61) O dJ23_getNode_61 rfl ?_
          refine v_callU (pc := 63) (nA := 1) (owner := "java/lang/Object") O (hm_spotEq (xL X) Γ h_s h_sk0 hκ hbk0) h_s rfl (lw5 q1019 q1021 q1027 q1028 q79) q1029 (Or.inr q1018) (by decide +kernel) rfl rfl rfl rfl (Nat.le_of_ble_eq_true rfl) (by omega) (by omega) dJ23_getNode_63 (v_kI (fun x μ9 h => ?_))
          obtain ⟨h9, rfl⟩ := h
          rw [decide_eq_true hek0] at h9
          obtain rfl : x = 1 := h9
          refine v_if_eq (pc := 66) (tgt := 71) O dJ23_getNode_66 (by decide) (fun c => absurd c (by decide)) (fun _ => ?_)
          refine v_aload_n (pc := 69) O dJ23_getNode_69 rfl ?_
          exact v_aret (pc := 70) O hr (Or.inl ⟨_, rfl⟩) (by omega) (by omega) dJ23_getNode_70 (Or.inr ⟨_, rfl⟩) ⟨(some (S.nd k0)), rfl, ⟨gn_yes hek0 (hm0 k0 List.mem_cons_self), rfl⟩⟩
set_option maxHeartbeats 4000000 in
theorem hm_nodeInit (l : Launch) (Γ : Gm) {q s v c : Nat} {r : Option Nat} {h : Int32} {μ0 : Mem} (h_q : μ0 q = some (.inr (12, [.int 0, .null, .null, .null]), c)) : MetV l Γ yJ27_init cJ27_init 5 none 1 0 0 [.ref q, .int h, .ref s, .ref v, (va_rf r)] μ0 (PV (fun μ1 => Put q (.inr (12, [.int 0, .null, .null, .null]), c) (.inr (12, [.int h, .ref s, .ref v, va_rf r]), c) μ0 μ1)) := by
  refine MetV.of (by decide +kernel) (by cases r <;> rfl) ?_
  intro X sz hl hr hnm O
  subst hl
  have hPq := Put.id h_q
  show V X Γ _ 5 _ 0 0 μ0 0 [(0, .ref q), (1, .int h), (2, .ref s), (3, .ref v), (4, (va_rf r))] []
  refine v_aload_n (pc := 0) O dJ27_init_0 rfl ?_
  refine v_objInit (pc := 1) O q1367 q104 q105 rfl (Nat.le_of_ble_eq_true rfl) dJ27_init_1 ?_
  refine v_aload_n (pc := 4) O dJ27_init_4 rfl ?_
  refine v_iload_n (pc := 5) O dJ27_init_5 rfl ?_
  refine w_putF (pc := 6) O hnm ci12 h_q 0 rfl q1368 (fun _ h => h) rfl rfl rfl rfl rfl dJ27_init_6 (fun μ pp => ?_)
  have h_q : μ q = some (.inr (12, [.int h, .null, .null, .null]), c) := pp.2.1
  have hPq := hPq.trans pp
  refine v_aload_n (pc := 9) O dJ27_init_9 rfl ?_
  refine v_aload_n (pc := 10) O dJ27_init_10 rfl ?_
  refine w_putF (pc := 11) O hnm ci12 h_q 1 rfl q1372 (fun _ h => h) rfl rfl rfl rfl rfl dJ27_init_11 (fun μ pp => ?_)
  have h_q : μ q = some (.inr (12, [.int h, .ref s, .null, .null]), c) := pp.2.1
  have hPq := hPq.trans pp
  refine v_aload_n (pc := 14) O dJ27_init_14 rfl ?_
  refine v_aload_n (pc := 15) O dJ27_init_15 rfl ?_
  refine w_put (pc := 16) O ci12 h_q 2 rfl q1377 (fun _ h => h) rfl rfl rfl rfl dJ27_init_16 (fun μ pp => ?_)
  have h_q : μ q = some (.inr (12, [.int h, .ref s, .ref v, .null]), c) := pp.2.1
  have hPq := hPq.trans pp
  refine v_aload_n (pc := 19) O dJ27_init_19 rfl ?_
  refine v_aloadQ (pc := 20) O dJ27_init_20 rfl ?_
  refine w_put (pc := 22) O ci12 h_q 3 rfl q1379 (fun _ h => h) rfl (rf_nar _) (rf_fit _) rfl dJ27_init_22 (fun μ pp => ?_)
  have h_q : μ q = some (.inr (12, [.int h, .ref s, .ref v, (va_rf r)]), c) := pp.2.1
  have hPq := hPq.trans pp
  exact v_vret (pc := 25) O hr (by omega) (by omega) dJ27_init_25 ⟨rfl, hPq⟩
set_option maxHeartbeats 4000000 in
theorem hm_newNode (l : Launch) (Γ : Gm) {a s v : Nat} {r : Option Nat} {h : Int32} {μ0 : Mem} (c : Nat) : MetV l Γ yJ23_newNode cJ23_newNode 5 (some (.object "java/util/HashMap$Node")) 2 1 4 [.ref a, .int h, .ref s, .ref v, (va_rf r)] μ0 (PR (fun q μ1 => New q (.inr (12, [.int h, .ref s, .ref v, va_rf r]), c) μ0 μ1)) := by
  refine MetV.of (by decide +kernel) (by cases r <;> rfl) ?_
  intro X sz hl hr hnm O
  subst hl
  show V X Γ _ 5 _ 0 0 μ0 0 [(0, .ref a), (1, .int h), (2, .ref s), (3, .ref v), (4, (va_rf r))] []
  refine w_new (pc := 0) O c [.int 0, .null, .null, .null] ci12 q1348 q1363 q86 (by decide +kernel) (by omega) (by omega) dJ23_newNode_0 (fun q μ pp => ?_)
  have hq := pp
  have h_q : μ q = some (.inr (12, [.int 0, .null, .null, .null]), c) := pp.2.1
  refine v_dup (pc := 3) O dJ23_newNode_3 rfl ?_
  refine v_iload_n (pc := 4) O dJ23_newNode_4 rfl ?_
  refine v_aload_n (pc := 5) O dJ23_newNode_5 rfl ?_
  refine v_aload_n (pc := 6) O dJ23_newNode_6 rfl ?_
  refine v_aloadQ (pc := 7) O dJ23_newNode_7 rfl ?_
  refine v_callI (pc := 9) (nA := 4) O (hm_nodeInit (xL X) Γ h_q) q1364 q1365 q86 q1366 rfl (by decide +kernel) rfl rfl rfl rfl (Nat.le_of_ble_eq_true rfl) (by omega) (by omega) dJ23_newNode_9 (v_kV (fun μ h => ?_))
  exact v_aret (pc := 12) O hr (Or.inl ⟨_, rfl⟩) (by omega) (by omega) dJ23_newNode_12 (Or.inr ⟨_, rfl⟩) ⟨q, rfl, hq.put h⟩
set_option maxHeartbeats 4000000 in
theorem hm_getKey (l : Launch) (Γ : Gm) {q s v c : Nat} {r : Option Nat} {h : Int32} {μ0 : Mem} (h_q : μ0 q = some (.inr (12, [.int h, .ref s, .ref v, va_rf r]), c)) : MetV l Γ yJ27_getKey cJ27_getKey 1 (some (.object "java/lang/Object")) 1 0 0 [.ref q] μ0 (PR (fun x μ1 => x = s ∧ μ0 = μ1)) := by
  refine MetV.of (by decide +kernel) rfl ?_
  intro X sz hl hr hnm O
  subst hl
  show V X Γ _ 1 _ 0 0 μ0 0 [(0, .ref q)] []
  refine v_aload_n (pc := 0) O dJ27_getKey_0 rfl ?_
  refine v_getf (pc := 1) O ci12 h_q 1 rfl q1372 (fun _ h => h) rfl dJ27_getKey_1 ?_
  exact v_aret (pc := 4) O hr (Or.inl ⟨_, rfl⟩) (by omega) (by omega) dJ27_getKey_4 (Or.inr ⟨_, rfl⟩) ⟨s, rfl, ⟨rfl, rfl⟩⟩
set_option maxHeartbeats 4000000 in
theorem hm_getValue (l : Launch) (Γ : Gm) {q s v c : Nat} {r : Option Nat} {h : Int32} {μ0 : Mem} (h_q : μ0 q = some (.inr (12, [.int h, .ref s, .ref v, va_rf r]), c)) : MetV l Γ yJ27_getValue cJ27_getValue 1 (some (.object "java/lang/Object")) 1 0 0 [.ref q] μ0 (PR (fun x μ1 => x = v ∧ μ0 = μ1)) := by
  refine MetV.of (by decide +kernel) rfl ?_
  intro X sz hl hr hnm O
  subst hl
  show V X Γ _ 1 _ 0 0 μ0 0 [(0, .ref q)] []
  refine v_aload_n (pc := 0) O dJ27_getValue_0 rfl ?_
  refine v_getf (pc := 1) O ci12 h_q 2 rfl q1377 (fun _ h => h) rfl dJ27_getValue_1 ?_
  exact v_aret (pc := 4) O hr (Or.inl ⟨_, rfl⟩) (by omega) (by omega) dJ27_getValue_4 (Or.inr ⟨_, rfl⟩) ⟨v, rfl, ⟨rfl, rfl⟩⟩
