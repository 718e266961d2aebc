/-! HashMap: the table grows (printed by gen/hm2.py) -/
set_option maxRecDepth 100000
theorem thr_pos {n : Nat} (h : 2 ≤ n) : 0 < thrOf (2 * n) := by unfold thrOf; omega
theorem thr_lt {n : Nat} (h : n ≤ 64) : thrOf (2 * n) < 2 ^ 31 := by unfold thrOf; omega
theorem Nds.putO {c a ci t : Nat} {S : HS} {nx : Nat → Option Nat} {fs : List Value} {e' : va_E × Nat} {μ μ' : Mem} (h : Nds c S nx μ) (pp : Put a (.inr (ci, fs), t) e' μ μ') (h1 : 12 ≠ ci) (h2 : 6 ≠ ci) : Nds c S nx μ' := fun k hk => ⟨pp.oth (h k hk).1 (fun z => by cases z; exact h1 rfl), pp.oth (h k hk).2 (fun z => by cases z; exact h2 rfl)⟩
theorem sp_all {S : HS} {hd nx : Nat → Option Nat} (hD : Dn S S.cap hd nx) : ∀ i, i < 2 * S.cap → Path nx (hd i) (spB S i) := fun i hi => by
  by_cases c : i < S.cap
  · exact (hD.1 i c).1
  · have h := (hD.1 (i - S.cap) (by omega)).2
    rwa [Nat.sub_add_cancel (by omega)] at h
set_option maxHeartbeats 4000000 in
theorem hm_resize (l : Launch) (Γ : Gm) {a c : Nat} {ks es : Value} {sz md : Int32} {S : HS} {μ0 : Mem} (h_a : μ0 a = some (.inr (11, [ks, .null, .ref S.tb, es, .int sz, .int md, .int (nI (thrOf S.cap)), .float LF]), c)) (hHN : HN Γ c S μ0) (hP : HPs S) (hc : S.cap < 64) : MetV l Γ yJ23_resize cJ23_resize 14 (some (.array (.object "java/util/HashMap$Node"))) 1 1 (2 * S.cap) [.ref a] μ0 (PR (fun q μ1 => ∃ hd nx : Nat → Option Nat, μ1 a = some (.inr (11, [ks, .null, .ref q, es, .int sz, .int md, .int (nI (thrOf (2 * S.cap))), .float LF]), c) ∧ HN Γ c (spS S q hd nx) μ1 ∧ HPs (spS S q hd nx) ∧ Upd c μ0 μ1)) := by
  refine MetV.of (by decide +kernel) rfl ?_
  intro X sz_ hl hr hnm O
  subst hl
  have hU : Upd c μ0 μ0 := Upd.rf
  obtain ⟨⟨f, h_Stb, hf⟩, hN⟩ := hHN
  have hcap := hP.cap
  have hthr := thr_f hP hc
  have h_tb0 := h_Stb
  have hN : Nds c S S.nx μ0 := hN
  show V X Γ _ 14 _ 0 0 μ0 0 [(0, .ref a)] []
  refine v_aload_n (pc := 0) O dJ23_resize_0 rfl ?_
  refine v_getf (pc := 1) O ci11 h_a 2 rfl q729 (fun _ h => h) rfl dJ23_resize_1 ?_
  refine v_astore_n (pc := 4) (lv' := [(1, .ref S.tb), (0, .ref a)]) O dJ23_resize_4 rfl rfl ?_
  refine v_aload_n (pc := 5) O dJ23_resize_5 rfl ?_
  refine v_ifnonnull (pc := 6) O (tgt := 13) dJ23_resize_6 (by decide) ?_
  refine v_aload_n (pc := 13) O dJ23_resize_13 rfl ?_
  refine v_alen (pc := 14) O 6 rfl h_Stb (v := nI S.cap) rfl dJ23_resize_14 ?_
  refine v_istore_n (pc := 15) (lv' := [(2, .int (nI S.cap)), (1, .ref S.tb), (0, .ref a)]) O dJ23_resize_15 rfl rfl ?_
  refine v_aload_n (pc := 16) O dJ23_resize_16 rfl ?_
  refine v_getf (pc := 17) O ci11 h_a 6 rfl q735 (fun _ h => h) rfl dJ23_resize_17 ?_
  refine v_istore_n (pc := 20) (lv' := [(3, .int (nI (thrOf S.cap))), (2, .int (nI S.cap)), (1, .ref S.tb), (0, .ref a)]) O dJ23_resize_20 rfl rfl ?_
  refine v_iconst (pc := 21) O (x := 0) dJ23_resize_21 (by decide) ?_
  refine v_istore (pc := 22) (lv' := [(5, .int 0), (3, .int (nI (thrOf S.cap))), (2, .int (nI S.cap)), (1, .ref S.tb), (0, .ref a)]) O dJ23_resize_22 rfl rfl ?_
  have L125 : V X Γ (gA μ0 sz_) 14 (QV X Γ μ0 sz_ (PR (fun q μ1 => ∃ hd nx : Nat → Option Nat, μ1 a = some (.inr (11, [ks, .null, .ref q, es, .int sz, .int md, .int (nI (thrOf (2 * S.cap))), .float LF]), c) ∧ HN Γ c (spS S q hd nx) μ1 ∧ HPs (spS S q hd nx) ∧ Upd c μ0 μ1)) 1 (2 * S.cap)) 0 0 μ0 125 [(0, .ref a), (1, .ref S.tb), (2, .int (nI S.cap)), (4, .int (nI (2 * S.cap))), (5, .int (nI (thrOf (2 * S.cap))))] [] := by
    refine v_aload_n (pc := 125) O dJ23_resize_125 rfl ?_
    refine v_iload (pc := 126) O dJ23_resize_126 rfl ?_
    refine w_put (pc := 128) O ci11 h_a 6 rfl q735 (fun _ h => h) rfl rfl rfl rfl dJ23_resize_128 (fun μ pp => ?_)
    have hN := hN.putO pp (by decide) (by decide)
    have h_Stb := pp.oth h_Stb (fun h => by cases h)
    have h_a : μ a = some (.inr (11, [ks, .null, .ref S.tb, es, .int sz, .int md, .int (nI (thrOf (2 * S.cap))), .float LF]), c) := pp.2.1
    have hU := hU.trans (pp.upd rfl rfl)
    refine v_iload (pc := 131) O dJ23_resize_131 rfl ?_
    refine w_newq (pc := 133) O c 6 rfl q1348 (by decide) (2 * S.cap) (nI_pos (by omega)) (nI_clamp (by omega)) (by omega) (by omega) (by omega) dJ23_resize_133 (fun q μ pp => ?_)
    have hqt : q ≠ S.tb := fun z => by rw [← z, pp.1] at h_Stb; cases h_Stb
    have hN : Nds c S S.nx μ := hN.mono (fun _ _ _ h => pp.oth h)
    have h_a := pp.oth h_a
    have h_Stb := pp.oth h_Stb
    have h_q : μ q = some (.inl (Γ.2.1 6, (2 * S.cap), .inr (.inr (.inr (.inr (fun _ => none))))), c) := pp.2.1
    have hU := hU.trans (pp.upd rfl)
    refine v_astore (pc := 136) (lv' := [(6, .ref q), (0, .ref a), (1, .ref S.tb), (2, .int (nI S.cap)), (4, .int (nI (2 * S.cap))), (5, .int (nI (thrOf (2 * S.cap))))]) O dJ23_resize_136 rfl rfl ?_
    refine v_aload_n (pc := 138) O dJ23_resize_138 rfl ?_
    refine v_aload (pc := 139) O dJ23_resize_139 rfl ?_
    refine w_put (pc := 141) O ci11 h_a 2 rfl q729 (fun _ h => h) rfl rfl rfl rfl dJ23_resize_141 (fun μ pp => ?_)
    have hN := hN.putO pp (by decide) (by decide)
    have h_Stb := pp.oth h_Stb (fun h => by cases h)
    have h_q := pp.oth h_q (fun h => by cases h)
    have h_a : μ a = some (.inr (11, [ks, .null, .ref q, es, .int sz, .int md, .int (nI (thrOf (2 * S.cap))), .float LF]), c) := pp.2.1
    have hU := hU.trans (pp.upd rfl rfl)
    refine v_aload_n (pc := 144) O dJ23_resize_144 rfl ?_
    refine v_ifnull (pc := 145) O dJ23_resize_145 ?_
    refine v_iconst (pc := 148) O (x := 0) dJ23_resize_148 (by decide) ?_
    refine v_istore (pc := 149) (lv' := [(7, .int 0), (6, .ref q), (0, .ref a), (1, .ref S.tb), (2, .int (nI S.cap)), (4, .int (nI (2 * S.cap))), (5, .int (nI (thrOf (2 * S.cap))))]) O dJ23_resize_149 rfl rfl ?_
    have L151 : ∀ (d j : Nat) (hd nx f g : Nat → Option Nat) (μ : Mem), S.cap < d + j → j ≤ S.cap → μ a = some (.inr (11, [ks, .null, .ref q, es, .int sz, .int md, .int (nI (thrOf (2 * S.cap))), .float LF]), c) → μ S.tb = some (.inl (Γ.2.1 6, S.cap, .inr (.inr (.inr (.inr f)))), c) → μ q = some (.inl (Γ.2.1 6, 2 * S.cap, .inr (.inr (.inr (.inr g)))), c) → (∀ i, j ≤ i → i < S.cap → f i = (S.hd i).map S.nd) → (∀ i, i < 2 * S.cap → g i = (hd i).map S.nd) → Nds c S nx μ → Dn S j hd nx → Upd c μ0 μ → V X Γ (gA μ0 sz_) 14 (QV X Γ μ0 sz_ (PR (fun q μ1 => ∃ hd nx : Nat → Option Nat, μ1 a = some (.inr (11, [ks, .null, .ref q, es, .int sz, .int md, .int (nI (thrOf (2 * S.cap))), .float LF]), c) ∧ HN Γ c (spS S q hd nx) μ1 ∧ HPs (spS S q hd nx) ∧ Upd c μ0 μ1)) 1 (2 * S.cap)) (0 + 1) (0 + 2 * S.cap) μ 151 [(0, .ref a), (1, .ref S.tb), (2, .int (nI S.cap)), (4, .int (nI (2 * S.cap))), (6, .ref q), (7, .int (nI j))] [] := by
      intro d
      induction d with
      | zero => intro j hd nx f g μ h1 h2; exact absurd h1 (by omega)
      | succ d ih =>
        intro j hd nx f g μ hdj hj h_a h_tb h_q hf hg hN hD hU
        refine v_iload (pc := 151) O dJ23_resize_151 rfl ?_
        refine v_iload_n (pc := 153) O dJ23_resize_153 rfl ?_
        refine v_icmp_ge (pc := 154) (tgt := 353) O dJ23_resize_154 (by decide) (fun c_154 => ?_) (fun c_154 => ?_)
        · have hje : j = S.cap := by have := (nI_leI (by omega) (by omega)).mp c_154; omega
          subst hje
          refine v_aload (pc := 353) O dJ23_resize_353 rfl ?_
          exact v_aret (pc := 355) O hr (Or.inr ⟨_, rfl⟩) (by omega) (by omega) dJ23_resize_355 (Or.inr ⟨_, rfl⟩) ⟨q, rfl, ⟨hd, nx, h_a, ⟨⟨g, h_q, hg⟩, hN⟩, spS_ok hP hc (sp_all hD), hU⟩⟩
        · have hjlt : j < S.cap := Nat.lt_of_not_le (fun z => c_154 (nI_le z (show j < 2 ^ 31 by omega)))
          refine v_aload_n (pc := 157) O dJ23_resize_157 rfl ?_
          refine v_iload (pc := 158) O dJ23_resize_158 rfl ?_
          rcases hh : S.hd j with _ | k0
          · refine w_aldq (pc := 160) O 6 rfl h_tb (vp_in_nI hjlt (by omega)) (v := .null) (by rw [nI_clamp (show j < 2 ^ 31 by omega), hf j (Nat.le_refl _) hjlt, hh]; rfl) dJ23_resize_160 ?_
            refine v_dup (pc := 161) O dJ23_resize_161 rfl ?_
            refine v_astoreN (pc := 162) (lv' := [(8, .null), (0, .ref a), (1, .ref S.tb), (2, .int (nI S.cap)), (4, .int (nI (2 * S.cap))), (6, .ref q), (7, .int (nI j))]) O dJ23_resize_162 rfl rfl ?_
            refine v_ifnullN (pc := 164) O (tgt := 347) dJ23_resize_164 (by decide) ?_
            refine v_iinc (pc := 347) (y := (nI (j + 1))) (lv' := [(7, .int (nI (j + 1))), (8, .null), (0, .ref a), (1, .ref S.tb), (2, .int (nI S.cap)), (4, .int (nI (2 * S.cap))), (6, .ref q)]) O dJ23_resize_347 rfl (nI_inc _) rfl rfl ?_
            refine v_goto (pc := 350) O (tgt := 151) dJ23_resize_350 (by decide) ?_
            exact v_locs [2, 3, 4, 5, 6, 0] rfl (ih (j + 1) hd nx f g μ (by omega) (by omega) h_a h_tb h_q (fun i h1 h2 => hf i (by omega) h2) hg hN (hD.none hjlt hh) hU)
          · refine w_aldq (pc := 160) O 6 rfl h_tb (vp_in_nI hjlt (by omega)) (v := .ref (S.nd k0)) (by rw [nI_clamp (show j < 2 ^ 31 by omega), hf j (Nat.le_refl _) hjlt, hh]; rfl) dJ23_resize_160 ?_
            refine v_dup (pc := 161) O dJ23_resize_161 rfl ?_
            refine v_astore (pc := 162) (lv' := [(8, .ref (S.nd k0)), (0, .ref a), (1, .ref S.tb), (2, .int (nI S.cap)), (4, .int (nI (2 * S.cap))), (6, .ref q), (7, .int (nI j))]) O dJ23_resize_162 rfl rfl ?_
            refine v_ifnull (pc := 164) O dJ23_resize_164 ?_
            refine v_aload_n (pc := 167) O dJ23_resize_167 rfl ?_
            refine v_iload (pc := 168) O dJ23_resize_168 rfl ?_
            refine v_null (pc := 170) O dJ23_resize_170 ?_
            refine w_astN (pc := 171) O 6 rfl h_tb (vp_in_nI hjlt (by omega)) dJ23_resize_171 (fun μ pp => ?_)
            rw [nI_clamp (show j < 2 ^ 31 by omega)] at pp
            have h_a := pp.oth h_a (fun h => by cases h)
            have h_q := (pp.2.2 _ hqt).trans h_q
            have h_tb : μ S.tb = some (.inl (Γ.2.1 6, S.cap, .inr (.inr (.inr (.inr (va_up f j none))))), c) := pp.2.1
            have hU := hU.trans (pp.upd rfl rfl)
            have hN := hN.mono (fun _ _ _ h => pp.oth h (fun z => by cases z))
            have hpj := (hD.2 j (Nat.le_refl _) hjlt).1
            rw [hh] at hpj
            obtain ⟨l0, hl0, hp0⟩ := hpj.cons
            have hm0 : ∀ z ∈ k0 :: l0, S.P z = true := fun z hz => (((hP.2.2 _ hjlt).2.2 z).mp (by rw [hl0]; exact hz)).1
            have hbk0 := hP.2.1 k0 (hm0 k0 List.mem_cons_self)
            have h_nk0 : μ (S.nd k0) = some (.inr (12, [.int (hsh k0), .ref (S.sp k0), .ref (S.vl k0), va_rf ((nx k0).map S.nd)]), c) := (hN k0 (hm0 k0 List.mem_cons_self)).1
            have h_sk0 : μ (S.sp k0) = some (.inr (6, [.int (nI k0)]), 1) := (hN k0 (hm0 k0 List.mem_cons_self)).2
            rcases hx : nx k0 with _ | k1
            · rw [hx] at hp0 h_nk0
              have h_nk0 : μ (S.nd k0) = some (.inr (12, [.int (hsh k0), .ref (S.sp k0), .ref (S.vl k0), .null]), c) := h_nk0
              have h1s := hD.one hP hc hjlt (by rw [hl0, hp0.nil]) hx
              refine v_aload (pc := 172) O dJ23_resize_172 rfl ?_
              refine v_getf (pc := 174) O ci12 h_nk0 3 rfl q1384 (fun _ h => h) rfl dJ23_resize_174 ?_
              refine v_ifnonnullN (pc := 177) O dJ23_resize_177 ?_
              refine v_aload (pc := 180) O dJ23_resize_180 rfl ?_
              refine v_aload (pc := 182) O dJ23_resize_182 rfl ?_
              refine v_getf (pc := 184) O ci12 h_nk0 0 rfl q1371 (fun _ h => h) rfl dJ23_resize_184 ?_
              refine v_iload (pc := 187) O dJ23_resize_187 rfl ?_
              refine v_iconst (pc := 189) O (x := 1) dJ23_resize_189 (by decide) ?_
              refine w_isub (pc := 190) O (nI (2 * S.cap - 1)) (nI_sub1 (by omega) (by omega)) dJ23_resize_190 ?_
              refine w_iand (pc := 191) O (nI (bk k0 (2 * S.cap))) (and_comm32 (bk_and2 hP hc hbk0)) dJ23_resize_191 ?_
              refine v_aload (pc := 192) O dJ23_resize_192 rfl ?_
              refine w_astn (pc := 194) O h_q h_nk0 (vp_in_nI h1s.2 (by omega)) dJ23_resize_194 (fun μ pp => ?_)
              rw [nI_clamp (show bk k0 (2 * S.cap) < 2 ^ 31 by have := h1s.2; omega)] at pp
              have h_a := pp.oth h_a (fun h => by cases h)
              have h_tb := (pp.2.2 _ (Ne.symm hqt)).trans h_tb
              have h_q : μ q = some (.inl (Γ.2.1 6, (2 * S.cap), .inr (.inr (.inr (.inr (va_up g (bk k0 (2 * S.cap)) (some (S.nd k0))))))), c) := pp.2.1
              have hU := hU.trans (pp.upd rfl rfl)
              have hN := hN.mono (fun _ _ _ h => pp.oth h (fun z => by cases z))
              refine v_goto (pc := 195) O (tgt := 347) dJ23_resize_195 (by decide) ?_
              refine v_iinc (pc := 347) (y := (nI (j + 1))) (lv' := [(7, .int (nI (j + 1))), (8, .ref (S.nd k0)), (0, .ref a), (1, .ref S.tb), (2, .int (nI S.cap)), (4, .int (nI (2 * S.cap))), (6, .ref q)]) O dJ23_resize_347 rfl (nI_inc _) rfl rfl ?_
              refine v_goto (pc := 350) O (tgt := 151) dJ23_resize_350 (by decide) ?_
              exact v_locs [2, 3, 4, 5, 6, 0] rfl (ih (j + 1) (va_up hd (bk k0 (2 * S.cap)) (some k0)) nx (va_up f j none) (va_up g (bk k0 (2 * S.cap)) (some (S.nd k0))) μ (by omega) (by omega) h_a h_tb h_q (fun i h1 h2 => by rw [va_up_ne _ _ (by omega)]; exact hf i (by omega) h2) (up_map hg) hN h1s.1 hU)
            · rw [hx] at hp0 h_nk0
              obtain ⟨l1, rfl, hp1⟩ := hp0.cons
              have h_nk0 : μ (S.nd k0) = some (.inr (12, [.int (hsh k0), .ref (S.sp k0), .ref (S.vl k0), .ref (S.nd k1)]), c) := h_nk0
              refine v_aload (pc := 172) O dJ23_resize_172 rfl ?_
              refine v_getf (pc := 174) O ci12 h_nk0 3 rfl q1384 (fun _ h => h) rfl dJ23_resize_174 ?_
              refine v_ifnonnull (pc := 177) O (tgt := 198) dJ23_resize_177 (by decide) ?_
              refine v_aload (pc := 198) O dJ23_resize_198 rfl ?_
              refine w_instN (pc := 200) O h_nk0 q1057 dJ23_resize_200 ?_
              refine v_if_eq (pc := 203) (tgt := 223) O dJ23_resize_203 (by decide) (fun _ => ?_) (fun c => absurd (by decide) c)
              refine v_null (pc := 223) O dJ23_resize_223 ?_
              refine v_astoreN (pc := 224) (lv' := [(9, .null), (8, .ref (S.nd k0)), (0, .ref a), (1, .ref S.tb), (2, .int (nI S.cap)), (4, .int (nI (2 * S.cap))), (6, .ref q), (7, .int (nI j))]) O dJ23_resize_224 rfl rfl ?_
              refine v_null (pc := 226) O dJ23_resize_226 ?_
              refine v_astoreN (pc := 227) (lv' := [(10, .null), (9, .null), (8, .ref (S.nd k0)), (0, .ref a), (1, .ref S.tb), (2, .int (nI S.cap)), (4, .int (nI (2 * S.cap))), (6, .ref q), (7, .int (nI j))]) O dJ23_resize_227 rfl rfl ?_
              refine v_null (pc := 229) O dJ23_resize_229 ?_
              refine v_astoreN (pc := 230) (lv' := [(11, .null), (10, .null), (9, .null), (8, .ref (S.nd k0)), (0, .ref a), (1, .ref S.tb), (2, .int (nI S.cap)), (4, .int (nI (2 * S.cap))), (6, .ref q), (7, .int (nI j))]) O dJ23_resize_230 rfl rfl ?_
              refine v_null (pc := 232) O dJ23_resize_232 ?_
              refine v_astoreN (pc := 233) (lv' := [(12, .null), (11, .null), (10, .null), (9, .null), (8, .ref (S.nd k0)), (0, .ref a), (1, .ref S.tb), (2, .int (nI S.cap)), (4, .int (nI (2 * S.cap))), (6, .ref q), (7, .int (nI j))]) O dJ23_resize_233 rfl rfl ?_
              have hI0 := Inn.st hP hjlt hl0 (nx := nx) (by rw [hx]; exact ⟨rfl, hp1⟩)
              have L309 : ∀ (lo hi : List Nat) (r9 r10 r11 r12 : Option Nat) (nx' : Nat → Option Nat) (μ : Mem), r9 = lo.head?.map S.nd → r10 = lo.getLast?.map S.nd → r11 = hi.head?.map S.nd → r12 = hi.getLast?.map S.nd → μ a = some (.inr (11, [ks, .null, .ref q, es, .int sz, .int md, .int (nI (thrOf (2 * S.cap))), .float LF]), c) → μ S.tb = some (.inl (Γ.2.1 6, S.cap, .inr (.inr (.inr (.inr (va_up f j none))))), c) → μ q = some (.inl (Γ.2.1 6, 2 * S.cap, .inr (.inr (.inr (.inr g)))), c) → Nds c S nx' μ → Inn S j nx nx' lo hi [] → Upd c μ0 μ → V X Γ (gA μ0 sz_) 14 (QV X Γ μ0 sz_ (PR (fun q μ1 => ∃ hd nx : Nat → Option Nat, μ1 a = some (.inr (11, [ks, .null, .ref q, es, .int sz, .int md, .int (nI (thrOf (2 * S.cap))), .float LF]), c) ∧ HN Γ c (spS S q hd nx) μ1 ∧ HPs (spS S q hd nx) ∧ Upd c μ0 μ1)) 1 (2 * S.cap)) (0 + 1) (0 + 2 * S.cap) μ 309 [(0, .ref a), (1, .ref S.tb), (2, .int (nI S.cap)), (4, .int (nI (2 * S.cap))), (6, .ref q), (7, .int (nI j)), (9, (va_rf r9)), (10, (va_rf r10)), (11, (va_rf r11)), (12, (va_rf r12))] [] := by
                intro lo hi r9 r10 r11 r12 nx' μ e9 e10 e11 e12 h_a h_tb h_q hN hI hU
                refine v_aloadQ (pc := 309) O dJ23_resize_309 rfl ?_
                refine v_ifnullQ (pc := 311) (tgt := 327) O dJ23_resize_311 (by decide) (fun c_311 => ?_) (fun x311_1 c_311 => ?_)
                · have hylo : lo = [] := last_none (Option.map_eq_none_iff.mp (e10.symm.trans c_311))
                  subst hylo
                  refine v_aloadQ (pc := 327) O dJ23_resize_327 rfl ?_
                  refine v_ifnullQ (pc := 329) (tgt := 347) O dJ23_resize_329 (by decide) (fun c_329 => ?_) (fun x329_2 c_329 => ?_)
                  · have hyhi : hi = [] := last_none (Option.map_eq_none_iff.mp (e12.symm.trans c_329))
                    subst hyhi
                    have hD2 : Dn S (j + 1) hd nx' := hD.two hP hjlt hI (fun z h1 h2 => by rfl) (fun z h1 => by cases h1) (fun z h1 => by cases h1) (fun i h1 h2 => by rfl) (by exact (hD.2 j (Nat.le_refl _) hjlt).2.1) (by exact (hD.2 j (Nat.le_refl _) hjlt).2.2)
                    refine v_iinc (pc := 347) (y := (nI (j + 1))) (lv' := [(7, .int (nI (j + 1))), (0, .ref a), (1, .ref S.tb), (2, .int (nI S.cap)), (4, .int (nI (2 * S.cap))), (6, .ref q), (9, (va_rf r9)), (10, (va_rf r10)), (11, (va_rf r11)), (12, (va_rf r12))]) O dJ23_resize_347 rfl (nI_inc _) rfl rfl ?_
                    refine v_goto (pc := 350) O (tgt := 151) dJ23_resize_350 (by decide) ?_
                    exact v_locs [1, 2, 3, 4, 5, 0] rfl (ih (j + 1) hd nx' (va_up f j none) g μ (by omega) (by omega) h_a h_tb h_q (fun i h1 h2 => by rw [va_up_ne _ _ (by omega)]; exact hf i (by omega) h2) hg hN hD2 hU)
                  · obtain ⟨u, hthi, hxhi⟩ := Option.map_eq_some_iff.mp (e12.symm.trans c_329)
                    subst hxhi
                    subst c_329
                    obtain ⟨L2, rfl⟩ := snoc_of hthi
                    have hmu : S.P u = true := (((hP.2.2 _ hjlt).2.2 u).mp (hI.2.2.2.2.1 u (by simp))).1
                    obtain ⟨h2, hdhi, hmemhi⟩ := snoc_head (L := L2) (t := u)
                    have hmh2 : S.P h2 = true := (((hP.2.2 _ hjlt).2.2 h2).mp (hI.2.2.2.2.1 h2 (by simp only [List.mem_append, List.append_nil] at hmemhi ⊢; simp only [hmemhi, or_true, true_or]))).1
                    have er11 : r11 = some (S.nd h2) := by rw [e11, hdhi]; rfl
                    subst er11
                    have hbu := hP.2.1 u hmu
                    have h_nu : μ (S.nd u) = some (.inr (12, [.int (hsh u), .ref (S.sp u), .ref (S.vl u), va_rf ((nx' u).map S.nd)]), c) := (hN u hmu).1
                    have h_su : μ (S.sp u) = some (.inr (6, [.int (nI u)]), 1) := (hN u hmu).2
                    refine v_aload (pc := 332) O dJ23_resize_332 rfl ?_
                    refine v_null (pc := 334) O dJ23_resize_334 ?_
                    refine w_put (pc := 335) O ci12 h_nu 3 rfl q1384 (fun _ h => h) rfl rfl rfl rfl dJ23_resize_335 (fun μ pp => ?_)
                    have h_a := pp.oth h_a (fun h => by cases h)
                    have h_tb := pp.oth h_tb (fun h => by cases h)
                    have h_q := pp.oth h_q (fun h => by cases h)
                    have hU := hU.trans (pp.upd rfl rfl)
                    have hN := hN.put (r := none) hP.2.1 hmu pp
                    refine v_aload (pc := 338) O dJ23_resize_338 rfl ?_
                    refine v_iload (pc := 340) O dJ23_resize_340 rfl ?_
                    refine v_iload_n (pc := 342) O dJ23_resize_342 rfl ?_
                    refine w_iadd (pc := 343) O (nI (j + S.cap)) (nI_add _ _) dJ23_resize_343 ?_
                    refine v_aload (pc := 344) O dJ23_resize_344 rfl ?_
                    have hbh2 := hP.2.1 h2 hmh2
                    have h_nh2 : μ (S.nd h2) = some (.inr (12, [.int (hsh h2), .ref (S.sp h2), .ref (S.vl h2), va_rf (((va_up nx' u none) h2).map S.nd)]), c) := (hN h2 hmh2).1
                    have h_sh2 : μ (S.sp h2) = some (.inr (6, [.int (nI h2)]), 1) := (hN h2 hmh2).2
                    refine w_astn (pc := 346) O h_q h_nh2 (vp_in_nI (by omega) (by omega)) dJ23_resize_346 (fun μ pp => ?_)
                    rw [nI_clamp (show j + S.cap < 2 ^ 31 by omega)] at pp
                    have h_a := pp.oth h_a (fun h => by cases h)
                    have h_tb := (pp.2.2 _ (Ne.symm hqt)).trans h_tb
                    have h_q : μ q = some (.inl (Γ.2.1 6, (2 * S.cap), .inr (.inr (.inr (.inr (va_up g (j + S.cap) (some (S.nd h2))))))), c) := pp.2.1
                    have hU := hU.trans (pp.upd rfl rfl)
                    have hN := hN.mono (fun _ _ _ h => pp.oth h (fun z => by cases z))
                    have hD2 : Dn S (j + 1) (va_up hd (j + S.cap) (some h2)) (va_up nx' u none) := hD.two hP hjlt hI (fun z h1 h2 => by rw [va_up_ne _ _ (fun e => h2 (by rw [e]; exact hthi))]) (fun z h1 => by cases h1) (fun z h1 => by have e := Option.some.inj (hthi.symm.trans h1); subst e; simp [va_up]) (fun i h1 h2 => by rw [va_up_ne _ _ h2]) (by rw [va_up_ne _ _ (by omega)]; exact (hD.2 j (Nat.le_refl _) hjlt).2.1) (by rw [va_up_self, hdhi])
                    refine v_iinc (pc := 347) (y := (nI (j + 1))) (lv' := [(7, .int (nI (j + 1))), (0, .ref a), (1, .ref S.tb), (2, .int (nI S.cap)), (4, .int (nI (2 * S.cap))), (6, .ref q), (9, (va_rf r9)), (10, (va_rf r10)), (11, .ref (S.nd h2)), (12, .ref (S.nd u))]) O dJ23_resize_347 rfl (nI_inc _) rfl rfl ?_
                    refine v_goto (pc := 350) O (tgt := 151) dJ23_resize_350 (by decide) ?_
                    exact v_locs [1, 2, 3, 4, 5, 0] rfl (ih (j + 1) (va_up hd (j + S.cap) (some h2)) (va_up nx' u none) (va_up f j none) (va_up g (j + S.cap) (some (S.nd h2))) μ (by omega) (by omega) h_a h_tb h_q (fun i h1 h2 => by rw [va_up_ne _ _ (by omega)]; exact hf i (by omega) h2) (up_map hg) hN hD2 hU)
                · obtain ⟨t, htlo, hxlo⟩ := Option.map_eq_some_iff.mp (e10.symm.trans c_311)
                  subst hxlo
                  subst c_311
                  obtain ⟨L, rfl⟩ := snoc_of htlo
                  have hmt : S.P t = true := (((hP.2.2 _ hjlt).2.2 t).mp (hI.2.2.2.2.1 t (by simp))).1
                  obtain ⟨hh, hdlo, hmemlo⟩ := snoc_head (L := L) (t := t)
                  have hmhh : S.P hh = true := (((hP.2.2 _ hjlt).2.2 hh).mp (hI.2.2.2.2.1 hh (by simp only [List.mem_append, List.append_nil] at hmemlo ⊢; simp only [hmemlo, or_true, true_or]))).1
                  have er9 : r9 = some (S.nd hh) := by rw [e9, hdlo]; rfl
                  subst er9
                  have hbt := hP.2.1 t hmt
                  have h_nt : μ (S.nd t) = some (.inr (12, [.int (hsh t), .ref (S.sp t), .ref (S.vl t), va_rf ((nx' t).map S.nd)]), c) := (hN t hmt).1
                  have h_st : μ (S.sp t) = some (.inr (6, [.int (nI t)]), 1) := (hN t hmt).2
                  refine v_aload (pc := 314) O dJ23_resize_314 rfl ?_
                  refine v_null (pc := 316) O dJ23_resize_316 ?_
                  refine w_put (pc := 317) O ci12 h_nt 3 rfl q1384 (fun _ h => h) rfl rfl rfl rfl dJ23_resize_317 (fun μ pp => ?_)
                  have h_a := pp.oth h_a (fun h => by cases h)
                  have h_tb := pp.oth h_tb (fun h => by cases h)
                  have h_q := pp.oth h_q (fun h => by cases h)
                  have hU := hU.trans (pp.upd rfl rfl)
                  have hN := hN.put (r := none) hP.2.1 hmt pp
                  refine v_aload (pc := 320) O dJ23_resize_320 rfl ?_
                  refine v_iload (pc := 322) O dJ23_resize_322 rfl ?_
                  refine v_aload (pc := 324) O dJ23_resize_324 rfl ?_
                  have hbhh := hP.2.1 hh hmhh
                  have h_nhh : μ (S.nd hh) = some (.inr (12, [.int (hsh hh), .ref (S.sp hh), .ref (S.vl hh), va_rf (((va_up nx' t none) hh).map S.nd)]), c) := (hN hh hmhh).1
                  have h_shh : μ (S.sp hh) = some (.inr (6, [.int (nI hh)]), 1) := (hN hh hmhh).2
                  refine w_astn (pc := 326) O h_q h_nhh (vp_in_nI (by omega) (by omega)) dJ23_resize_326 (fun μ pp => ?_)
                  rw [nI_clamp (show j < 2 ^ 31 by omega)] at pp
                  have h_a := pp.oth h_a (fun h => by cases h)
                  have h_tb := (pp.2.2 _ (Ne.symm hqt)).trans h_tb
                  have h_q : μ q = some (.inl (Γ.2.1 6, (2 * S.cap), .inr (.inr (.inr (.inr (va_up g j (some (S.nd hh))))))), c) := pp.2.1
                  have hU := hU.trans (pp.upd rfl rfl)
                  have hN := hN.mono (fun _ _ _ h => pp.oth h (fun z => by cases z))
                  refine v_aloadQ (pc := 327) O dJ23_resize_327 rfl ?_
                  refine v_ifnullQ (pc := 329) (tgt := 347) O dJ23_resize_329 (by decide) (fun c_329 => ?_) (fun x329_3 c_329 => ?_)
                  · have hyhi : hi = [] := last_none (Option.map_eq_none_iff.mp (e12.symm.trans c_329))
                    subst hyhi
                    have hD2 : Dn S (j + 1) (va_up hd j (some hh)) (va_up nx' t none) := hD.two hP hjlt hI (fun z h1 h2 => by rw [va_up_ne _ _ (fun e => h1 (by rw [e]; exact htlo))]) (fun z h1 => by have e := Option.some.inj (htlo.symm.trans h1); subst e; simp [va_up]) (fun z h1 => by cases h1) (fun i h1 h2 => by rw [va_up_ne _ _ h1]) (by rw [va_up_self, hdlo]) (by rw [va_up_ne _ _ (by omega)]; exact (hD.2 j (Nat.le_refl _) hjlt).2.2)
                    refine v_iinc (pc := 347) (y := (nI (j + 1))) (lv' := [(7, .int (nI (j + 1))), (0, .ref a), (1, .ref S.tb), (2, .int (nI S.cap)), (4, .int (nI (2 * S.cap))), (6, .ref q), (9, .ref (S.nd hh)), (10, .ref (S.nd t)), (11, (va_rf r11)), (12, (va_rf r12))]) O dJ23_resize_347 rfl (nI_inc _) rfl rfl ?_
                    refine v_goto (pc := 350) O (tgt := 151) dJ23_resize_350 (by decide) ?_
                    exact v_locs [1, 2, 3, 4, 5, 0] rfl (ih (j + 1) (va_up hd j (some hh)) (va_up nx' t none) (va_up f j none) (va_up g j (some (S.nd hh))) μ (by omega) (by omega) h_a h_tb h_q (fun i h1 h2 => by rw [va_up_ne _ _ (by omega)]; exact hf i (by omega) h2) (up_map hg) hN hD2 hU)
                  · obtain ⟨u, hthi, hxhi⟩ := Option.map_eq_some_iff.mp (e12.symm.trans c_329)
                    subst hxhi
                    subst c_329
                    obtain ⟨L2, rfl⟩ := snoc_of hthi
                    have hmu : S.P u = true := (((hP.2.2 _ hjlt).2.2 u).mp (hI.2.2.2.2.1 u (by simp))).1
                    obtain ⟨h2, hdhi, hmemhi⟩ := snoc_head (L := L2) (t := u)
                    have hmh2 : S.P h2 = true := (((hP.2.2 _ hjlt).2.2 h2).mp (hI.2.2.2.2.1 h2 (by simp only [List.mem_append, List.append_nil] at hmemhi ⊢; simp only [hmemhi, or_true, true_or]))).1
                    have er11 : r11 = some (S.nd h2) := by rw [e11, hdhi]; rfl
                    subst er11
                    have hbu := hP.2.1 u hmu
                    have h_nu : μ (S.nd u) = some (.inr (12, [.int (hsh u), .ref (S.sp u), .ref (S.vl u), va_rf (((va_up nx' t none) u).map S.nd)]), c) := (hN u hmu).1
                    have h_su : μ (S.sp u) = some (.inr (6, [.int (nI u)]), 1) := (hN u hmu).2
                    refine v_aload (pc := 332) O dJ23_resize_332 rfl ?_
                    refine v_null (pc := 334) O dJ23_resize_334 ?_
                    refine w_put (pc := 335) O ci12 h_nu 3 rfl q1384 (fun _ h => h) rfl rfl rfl rfl dJ23_resize_335 (fun μ pp => ?_)
                    have h_a := pp.oth h_a (fun h => by cases h)
                    have h_tb := pp.oth h_tb (fun h => by cases h)
                    have h_q := pp.oth h_q (fun h => by cases h)
                    have hU := hU.trans (pp.upd rfl rfl)
                    have hN := hN.put (r := none) hP.2.1 hmu pp
                    refine v_aload (pc := 338) O dJ23_resize_338 rfl ?_
                    refine v_iload (pc := 340) O dJ23_resize_340 rfl ?_
                    refine v_iload_n (pc := 342) O dJ23_resize_342 rfl ?_
                    refine w_iadd (pc := 343) O (nI (j + S.cap)) (nI_add _ _) dJ23_resize_343 ?_
                    refine v_aload (pc := 344) O dJ23_resize_344 rfl ?_
                    have hbh2 := hP.2.1 h2 hmh2
                    have h_nh2 : μ (S.nd h2) = some (.inr (12, [.int (hsh h2), .ref (S.sp h2), .ref (S.vl h2), va_rf (((va_up (va_up nx' t none) u none) h2).map S.nd)]), c) := (hN h2 hmh2).1
                    have h_sh2 : μ (S.sp h2) = some (.inr (6, [.int (nI h2)]), 1) := (hN h2 hmh2).2
                    refine w_astn (pc := 346) O h_q h_nh2 (vp_in_nI (by omega) (by omega)) dJ23_resize_346 (fun μ pp => ?_)
                    rw [nI_clamp (show j + S.cap < 2 ^ 31 by omega)] at pp
                    have h_a := pp.oth h_a (fun h => by cases h)
                    have h_tb := (pp.2.2 _ (Ne.symm hqt)).trans h_tb
                    have h_q : μ q = some (.inl (Γ.2.1 6, (2 * S.cap), .inr (.inr (.inr (.inr (va_up (va_up g j (some (S.nd hh))) (j + S.cap) (some (S.nd h2))))))), c) := pp.2.1
                    have hU := hU.trans (pp.upd rfl rfl)
                    have hN := hN.mono (fun _ _ _ h => pp.oth h (fun z => by cases z))
                    have hD2 : Dn S (j + 1) (va_up (va_up hd j (some hh)) (j + S.cap) (some h2)) (va_up (va_up nx' t none) u none) := hD.two hP hjlt hI (fun z h1 h2 => by rw [va_up_ne _ _ (fun e => h2 (by rw [e]; exact hthi)), va_up_ne _ _ (fun e => h1 (by rw [e]; exact htlo))]) (fun z h1 => by have e := Option.some.inj (htlo.symm.trans h1); subst e; simp [va_up]) (fun z h1 => by have e := Option.some.inj (hthi.symm.trans h1); subst e; simp [va_up]) (fun i h1 h2 => by rw [va_up_ne _ _ h2, va_up_ne _ _ h1]) (by rw [va_up_ne _ _ (by omega)]; rw [va_up_self, hdlo]) (by rw [va_up_self, hdhi])
                    refine v_iinc (pc := 347) (y := (nI (j + 1))) (lv' := [(7, .int (nI (j + 1))), (0, .ref a), (1, .ref S.tb), (2, .int (nI S.cap)), (4, .int (nI (2 * S.cap))), (6, .ref q), (9, .ref (S.nd hh)), (10, .ref (S.nd t)), (11, .ref (S.nd h2)), (12, .ref (S.nd u))]) O dJ23_resize_347 rfl (nI_inc _) rfl rfl ?_
                    refine v_goto (pc := 350) O (tgt := 151) dJ23_resize_350 (by decide) ?_
                    exact v_locs [1, 2, 3, 4, 5, 0] rfl (ih (j + 1) (va_up (va_up hd j (some hh)) (j + S.cap) (some h2)) (va_up (va_up nx' t none) u none) (va_up f j none) (va_up (va_up g j (some (S.nd hh))) (j + S.cap) (some (S.nd h2))) μ (by omega) (by omega) h_a h_tb h_q (fun i h1 h2 => by rw [va_up_ne _ _ (by omega)]; exact hf i (by omega) h2) (up_map (up_map hg)) hN hD2 hU)
              have L235 : ∀ (R : List Nat) (k : Nat) (lo hi : List Nat) (r9 r10 r11 r12 : Option Nat) (nx' : Nat → Option Nat) (μ : Mem), r9 = lo.head?.map S.nd → r10 = lo.getLast?.map S.nd → r11 = hi.head?.map S.nd → r12 = hi.getLast?.map S.nd → μ a = some (.inr (11, [ks, .null, .ref q, es, .int sz, .int md, .int (nI (thrOf (2 * S.cap))), .float LF]), c) → μ S.tb = some (.inl (Γ.2.1 6, S.cap, .inr (.inr (.inr (.inr (va_up f j none))))), c) → μ q = some (.inl (Γ.2.1 6, 2 * S.cap, .inr (.inr (.inr (.inr g)))), c) → Nds c S nx' μ → Inn S j nx nx' lo hi (k :: R) → Upd c μ0 μ → V X Γ (gA μ0 sz_) 14 (QV X Γ μ0 sz_ (PR (fun q μ1 => ∃ hd nx : Nat → Option Nat, μ1 a = some (.inr (11, [ks, .null, .ref q, es, .int sz, .int md, .int (nI (thrOf (2 * S.cap))), .float LF]), c) ∧ HN Γ c (spS S q hd nx) μ1 ∧ HPs (spS S q hd nx) ∧ Upd c μ0 μ1)) 1 (2 * S.cap)) (0 + 1) (0 + 2 * S.cap) μ 235 [(0, .ref a), (1, .ref S.tb), (2, .int (nI S.cap)), (4, .int (nI (2 * S.cap))), (6, .ref q), (7, .int (nI j)), (8, .ref (S.nd k)), (9, (va_rf r9)), (10, (va_rf r10)), (11, (va_rf r11)), (12, (va_rf r12))] [] := by
                intro R
                induction R with
                | nil =>
                  intro k lo hi r9 r10 r11 r12 nx' μ e9 e10 e11 e12 h_a h_tb h_q hN hI hU
                  have hp : Path nx' (nx' k) [] := hI.1 k _ rfl
                  have hmk : S.P k = true := (((hP.2.2 _ hjlt).2.2 k).mp (hI.2.2.2.2.1 k (by simp))).1
                  have hbk := hP.2.1 k hmk
                  have h_nk : μ (S.nd k) = some (.inr (12, [.int (hsh k), .ref (S.sp k), .ref (S.vl k), .null]), c) := (by have h9 := (hN k hmk).1; rw [show nx' k = none from hp] at h9; exact h9)
                  have h_sk : μ (S.sp k) = some (.inr (6, [.int (nI k)]), 1) := (hN k hmk).2
                  refine v_aload (pc := 235) O dJ23_resize_235 rfl ?_
                  refine v_getf (pc := 237) O ci12 h_nk 3 rfl q1384 (fun _ h => h) rfl dJ23_resize_237 ?_
                  refine v_astoreN (pc := 240) (lv' := [(13, .null), (0, .ref a), (1, .ref S.tb), (2, .int (nI S.cap)), (4, .int (nI (2 * S.cap))), (6, .ref q), (7, .int (nI j)), (8, .ref (S.nd k)), (9, (va_rf r9)), (10, (va_rf r10)), (11, (va_rf r11)), (12, (va_rf r12))]) O dJ23_resize_240 rfl (by simp [rf_cat]) ?_
                  refine v_aload (pc := 242) O dJ23_resize_242 rfl ?_
                  refine v_getf (pc := 244) O ci12 h_nk 0 rfl q1371 (fun _ h => h) rfl dJ23_resize_244 ?_
                  refine v_iload_n (pc := 247) O dJ23_resize_247 rfl ?_
                  refine v_iand (pc := 248) O dJ23_resize_248 ?_
                  refine v_if_ne (pc := 249) (tgt := 278) O dJ23_resize_249 (by decide) (fun c_249 => ?_) (fun c_249 => ?_)
                  · have hl : isLo S k = false := decide_eq_false c_249
                    refine v_aloadQ (pc := 278) O dJ23_resize_278 rfl ?_
                    refine v_ifnonnullQ (pc := 280) (tgt := 290) O dJ23_resize_280 (by decide) (fun x280_4 c_280 => ?_) (fun c_280 => ?_)
                    · obtain ⟨u, hthi, hxhi⟩ := Option.map_eq_some_iff.mp (e12.symm.trans c_280)
                      subst hxhi
                      subst c_280
                      obtain ⟨L2, rfl⟩ := snoc_of hthi
                      have hmu : S.P u = true := (((hP.2.2 _ hjlt).2.2 u).mp (hI.2.2.2.2.1 u (by simp))).1
                      have hbu := hP.2.1 u hmu
                      have h_nu : μ (S.nd u) = some (.inr (12, [.int (hsh u), .ref (S.sp u), .ref (S.vl u), va_rf ((nx' u).map S.nd)]), c) := (hN u hmu).1
                      have h_su : μ (S.sp u) = some (.inr (6, [.int (nI u)]), 1) := (hN u hmu).2
                      refine v_aload (pc := 290) O dJ23_resize_290 rfl ?_
                      refine v_aload (pc := 292) O dJ23_resize_292 rfl ?_
                      refine w_put (pc := 294) O ci12 h_nu 3 rfl q1384 (fun _ h => h) rfl rfl rfl rfl dJ23_resize_294 (fun μ pp => ?_)
                      have h_a := pp.oth h_a (fun h => by cases h)
                      have h_tb := pp.oth h_tb (fun h => by cases h)
                      have h_q := pp.oth h_q (fun h => by cases h)
                      have hU := hU.trans (pp.upd rfl rfl)
                      have hN := hN.put (r := (some k)) hP.2.1 hmu pp
                      refine v_aload (pc := 297) O dJ23_resize_297 rfl ?_
                      refine v_astore (pc := 299) (lv' := [(12, .ref (S.nd k)), (13, .null), (0, .ref a), (1, .ref S.tb), (2, .int (nI S.cap)), (4, .int (nI (2 * S.cap))), (6, .ref q), (7, .int (nI j)), (8, .ref (S.nd k)), (9, (va_rf r9)), (10, (va_rf r10)), (11, (va_rf r11))]) O dJ23_resize_299 rfl (by simp [rf_cat]) ?_
                      refine v_aloadN (pc := 301) O dJ23_resize_301 rfl ?_
                      refine v_dup (pc := 303) O dJ23_resize_303 rfl ?_
                      refine v_astoreN (pc := 304) (lv' := [(8, .null), (12, .ref (S.nd k)), (13, .null), (0, .ref a), (1, .ref S.tb), (2, .int (nI S.cap)), (4, .int (nI (2 * S.cap))), (6, .ref q), (7, .int (nI j)), (9, (va_rf r9)), (10, (va_rf r10)), (11, (va_rf r11))]) O dJ23_resize_304 rfl rfl ?_
                      refine v_ifnonnullN (pc := 306) O dJ23_resize_306 ?_
                      exact v_locs [3, 4, 5, 6, 7, 8, 9, 10, 11, 1] rfl (L309 lo (L2 ++ [u] ++ [k]) r9 r10 r11 (some (S.nd k)) (va_up nx' u (some k)) μ e9 e10 (by rw [head_snoc hthi]; exact e11) (by rw [last_snoc]; rfl) h_a h_tb h_q hN (hI.hiN hl) hU)
                    · have hyhi : hi = [] := last_none (Option.map_eq_none_iff.mp (e12.symm.trans c_280))
                      subst hyhi
                      refine v_aload (pc := 283) O dJ23_resize_283 rfl ?_
                      refine v_astore (pc := 285) (lv' := [(11, .ref (S.nd k)), (13, .null), (0, .ref a), (1, .ref S.tb), (2, .int (nI S.cap)), (4, .int (nI (2 * S.cap))), (6, .ref q), (7, .int (nI j)), (8, .ref (S.nd k)), (9, (va_rf r9)), (10, (va_rf r10)), (12, (va_rf r12))]) O dJ23_resize_285 rfl (by simp [rf_cat]) ?_
                      refine v_goto (pc := 287) O (tgt := 297) dJ23_resize_287 (by decide) ?_
                      refine v_aload (pc := 297) O dJ23_resize_297 rfl ?_
                      refine v_astore (pc := 299) (lv' := [(12, .ref (S.nd k)), (11, .ref (S.nd k)), (13, .null), (0, .ref a), (1, .ref S.tb), (2, .int (nI S.cap)), (4, .int (nI (2 * S.cap))), (6, .ref q), (7, .int (nI j)), (8, .ref (S.nd k)), (9, (va_rf r9)), (10, (va_rf r10))]) O dJ23_resize_299 rfl rfl ?_
                      refine v_aloadN (pc := 301) O dJ23_resize_301 rfl ?_
                      refine v_dup (pc := 303) O dJ23_resize_303 rfl ?_
                      refine v_astoreN (pc := 304) (lv' := [(8, .null), (12, .ref (S.nd k)), (11, .ref (S.nd k)), (13, .null), (0, .ref a), (1, .ref S.tb), (2, .int (nI S.cap)), (4, .int (nI (2 * S.cap))), (6, .ref q), (7, .int (nI j)), (9, (va_rf r9)), (10, (va_rf r10))]) O dJ23_resize_304 rfl rfl ?_
                      refine v_ifnonnullN (pc := 306) O dJ23_resize_306 ?_
                      exact v_locs [4, 5, 6, 7, 8, 9, 10, 11, 2, 1] rfl (L309 lo [k] r9 r10 (some (S.nd k)) (some (S.nd k)) nx' μ e9 e10 rfl rfl h_a h_tb h_q hN (hI.hiE hl) hU)
                  · have hl : isLo S k = true := decide_eq_true c_249
                    refine v_aloadQ (pc := 252) O dJ23_resize_252 rfl ?_
                    refine v_ifnonnullQ (pc := 254) (tgt := 264) O dJ23_resize_254 (by decide) (fun x254_5 c_254 => ?_) (fun c_254 => ?_)
                    · obtain ⟨t, htlo, hxlo⟩ := Option.map_eq_some_iff.mp (e10.symm.trans c_254)
                      subst hxlo
                      subst c_254
                      obtain ⟨L, rfl⟩ := snoc_of htlo
                      have hmt : S.P t = true := (((hP.2.2 _ hjlt).2.2 t).mp (hI.2.2.2.2.1 t (by simp))).1
                      have hbt := hP.2.1 t hmt
                      have h_nt : μ (S.nd t) = some (.inr (12, [.int (hsh t), .ref (S.sp t), .ref (S.vl t), va_rf ((nx' t).map S.nd)]), c) := (hN t hmt).1
                      have h_st : μ (S.sp t) = some (.inr (6, [.int (nI t)]), 1) := (hN t hmt).2
                      refine v_aload (pc := 264) O dJ23_resize_264 rfl ?_
                      refine v_aload (pc := 266) O dJ23_resize_266 rfl ?_
                      refine w_put (pc := 268) O ci12 h_nt 3 rfl q1384 (fun _ h => h) rfl rfl rfl rfl dJ23_resize_268 (fun μ pp => ?_)
                      have h_a := pp.oth h_a (fun h => by cases h)
                      have h_tb := pp.oth h_tb (fun h => by cases h)
                      have h_q := pp.oth h_q (fun h => by cases h)
                      have hU := hU.trans (pp.upd rfl rfl)
                      have hN := hN.put (r := (some k)) hP.2.1 hmt pp
                      refine v_aload (pc := 271) O dJ23_resize_271 rfl ?_
                      refine v_astore (pc := 273) (lv' := [(10, .ref (S.nd k)), (13, .null), (0, .ref a), (1, .ref S.tb), (2, .int (nI S.cap)), (4, .int (nI (2 * S.cap))), (6, .ref q), (7, .int (nI j)), (8, .ref (S.nd k)), (9, (va_rf r9)), (11, (va_rf r11)), (12, (va_rf r12))]) O dJ23_resize_273 rfl (by simp [rf_cat]) ?_
                      refine v_goto (pc := 275) O (tgt := 301) dJ23_resize_275 (by decide) ?_
                      refine v_aloadN (pc := 301) O dJ23_resize_301 rfl ?_
                      refine v_dup (pc := 303) O dJ23_resize_303 rfl ?_
                      refine v_astoreN (pc := 304) (lv' := [(8, .null), (10, .ref (S.nd k)), (13, .null), (0, .ref a), (1, .ref S.tb), (2, .int (nI S.cap)), (4, .int (nI (2 * S.cap))), (6, .ref q), (7, .int (nI j)), (9, (va_rf r9)), (11, (va_rf r11)), (12, (va_rf r12))]) O dJ23_resize_304 rfl rfl ?_
                      refine v_ifnonnullN (pc := 306) O dJ23_resize_306 ?_
                      exact v_locs [3, 4, 5, 6, 7, 8, 9, 1, 10, 11] rfl (L309 (L ++ [t] ++ [k]) hi r9 (some (S.nd k)) r11 r12 (va_up nx' t (some k)) μ (by rw [head_snoc htlo]; exact e9) (by rw [last_snoc]; rfl) e11 e12 h_a h_tb h_q hN (hI.loN hl) hU)
                    · have hylo : lo = [] := last_none (Option.map_eq_none_iff.mp (e10.symm.trans c_254))
                      subst hylo
                      refine v_aload (pc := 257) O dJ23_resize_257 rfl ?_
                      refine v_astore (pc := 259) (lv' := [(9, .ref (S.nd k)), (13, .null), (0, .ref a), (1, .ref S.tb), (2, .int (nI S.cap)), (4, .int (nI (2 * S.cap))), (6, .ref q), (7, .int (nI j)), (8, .ref (S.nd k)), (10, (va_rf r10)), (11, (va_rf r11)), (12, (va_rf r12))]) O dJ23_resize_259 rfl rfl ?_
                      refine v_goto (pc := 261) O (tgt := 271) dJ23_resize_261 (by decide) ?_
                      refine v_aload (pc := 271) O dJ23_resize_271 rfl ?_
                      refine v_astore (pc := 273) (lv' := [(10, .ref (S.nd k)), (9, .ref (S.nd k)), (13, .null), (0, .ref a), (1, .ref S.tb), (2, .int (nI S.cap)), (4, .int (nI (2 * S.cap))), (6, .ref q), (7, .int (nI j)), (8, .ref (S.nd k)), (11, (va_rf r11)), (12, (va_rf r12))]) O dJ23_resize_273 rfl rfl ?_
                      refine v_goto (pc := 275) O (tgt := 301) dJ23_resize_275 (by decide) ?_
                      refine v_aloadN (pc := 301) O dJ23_resize_301 rfl ?_
                      refine v_dup (pc := 303) O dJ23_resize_303 rfl ?_
                      refine v_astoreN (pc := 304) (lv' := [(8, .null), (10, .ref (S.nd k)), (9, .ref (S.nd k)), (13, .null), (0, .ref a), (1, .ref S.tb), (2, .int (nI S.cap)), (4, .int (nI (2 * S.cap))), (6, .ref q), (7, .int (nI j)), (11, (va_rf r11)), (12, (va_rf r12))]) O dJ23_resize_304 rfl rfl ?_
                      refine v_ifnonnullN (pc := 306) O dJ23_resize_306 ?_
                      exact v_locs [4, 5, 6, 7, 8, 9, 2, 1, 10, 11] rfl (L309 [k] hi (some (S.nd k)) (some (S.nd k)) r11 r12 nx' μ rfl rfl e11 e12 h_a h_tb h_q hN (hI.loE hl) hU)
                | cons k1 R ih235 =>
                  intro k lo hi r9 r10 r11 r12 nx' μ e9 e10 e11 e12 h_a h_tb h_q hN hI hU
                  have hp : Path nx' (nx' k) (k1 :: R) := hI.1 k _ rfl
                  have hmk : S.P k = true := (((hP.2.2 _ hjlt).2.2 k).mp (hI.2.2.2.2.1 k (by simp))).1
                  have hbk := hP.2.1 k hmk
                  have h_nk : μ (S.nd k) = some (.inr (12, [.int (hsh k), .ref (S.sp k), .ref (S.vl k), .ref (S.nd k1)]), c) := (by have h9 := (hN k hmk).1; rw [hp.1] at h9; exact h9)
                  have h_sk : μ (S.sp k) = some (.inr (6, [.int (nI k)]), 1) := (hN k hmk).2
                  refine v_aload (pc := 235) O dJ23_resize_235 rfl ?_
                  refine v_getf (pc := 237) O ci12 h_nk 3 rfl q1384 (fun _ h => h) rfl dJ23_resize_237 ?_
                  refine v_astore (pc := 240) (lv' := [(13, .ref (S.nd k1)), (0, .ref a), (1, .ref S.tb), (2, .int (nI S.cap)), (4, .int (nI (2 * S.cap))), (6, .ref q), (7, .int (nI j)), (8, .ref (S.nd k)), (9, (va_rf r9)), (10, (va_rf r10)), (11, (va_rf r11)), (12, (va_rf r12))]) O dJ23_resize_240 rfl (by simp [rf_cat]) ?_
                  refine v_aload (pc := 242) O dJ23_resize_242 rfl ?_
                  refine v_getf (pc := 244) O ci12 h_nk 0 rfl q1371 (fun _ h => h) rfl dJ23_resize_244 ?_
                  refine v_iload_n (pc := 247) O dJ23_resize_247 rfl ?_
                  refine v_iand (pc := 248) O dJ23_resize_248 ?_
                  refine v_if_ne (pc := 249) (tgt := 278) O dJ23_resize_249 (by decide) (fun c_249 => ?_) (fun c_249 => ?_)
                  · have hl : isLo S k = false := decide_eq_false c_249
                    refine v_aloadQ (pc := 278) O dJ23_resize_278 rfl ?_
                    refine v_ifnonnullQ (pc := 280) (tgt := 290) O dJ23_resize_280 (by decide) (fun x280_6 c_280 => ?_) (fun c_280 => ?_)
                    · obtain ⟨u, hthi, hxhi⟩ := Option.map_eq_some_iff.mp (e12.symm.trans c_280)
                      subst hxhi
                      subst c_280
                      obtain ⟨L2, rfl⟩ := snoc_of hthi
                      have hmu : S.P u = true := (((hP.2.2 _ hjlt).2.2 u).mp (hI.2.2.2.2.1 u (by simp))).1
                      have hbu := hP.2.1 u hmu
                      have h_nu : μ (S.nd u) = some (.inr (12, [.int (hsh u), .ref (S.sp u), .ref (S.vl u), va_rf ((nx' u).map S.nd)]), c) := (hN u hmu).1
                      have h_su : μ (S.sp u) = some (.inr (6, [.int (nI u)]), 1) := (hN u hmu).2
                      refine v_aload (pc := 290) O dJ23_resize_290 rfl ?_
                      refine v_aload (pc := 292) O dJ23_resize_292 rfl ?_
                      refine w_put (pc := 294) O ci12 h_nu 3 rfl q1384 (fun _ h => h) rfl rfl rfl rfl dJ23_resize_294 (fun μ pp => ?_)
                      have h_a := pp.oth h_a (fun h => by cases h)
                      have h_tb := pp.oth h_tb (fun h => by cases h)
                      have h_q := pp.oth h_q (fun h => by cases h)
                      have hU := hU.trans (pp.upd rfl rfl)
                      have hN := hN.put (r := (some k)) hP.2.1 hmu pp
                      refine v_aload (pc := 297) O dJ23_resize_297 rfl ?_
                      refine v_astore (pc := 299) (lv' := [(12, .ref (S.nd k)), (13, .ref (S.nd k1)), (0, .ref a), (1, .ref S.tb), (2, .int (nI S.cap)), (4, .int (nI (2 * S.cap))), (6, .ref q), (7, .int (nI j)), (8, .ref (S.nd k)), (9, (va_rf r9)), (10, (va_rf r10)), (11, (va_rf r11))]) O dJ23_resize_299 rfl (by simp [rf_cat]) ?_
                      refine v_aload (pc := 301) O dJ23_resize_301 rfl ?_
                      refine v_dup (pc := 303) O dJ23_resize_303 rfl ?_
                      refine v_astore (pc := 304) (lv' := [(8, .ref (S.nd k1)), (12, .ref (S.nd k)), (13, .ref (S.nd k1)), (0, .ref a), (1, .ref S.tb), (2, .int (nI S.cap)), (4, .int (nI (2 * S.cap))), (6, .ref q), (7, .int (nI j)), (9, (va_rf r9)), (10, (va_rf r10)), (11, (va_rf r11))]) O dJ23_resize_304 rfl rfl ?_
                      refine v_ifnonnull (pc := 306) O (tgt := 235) dJ23_resize_306 (by decide) ?_
                      exact v_locs [3, 4, 5, 6, 7, 8, 0, 9, 10, 11, 1] rfl (ih235 k1 lo (L2 ++ [u] ++ [k]) r9 r10 r11 (some (S.nd k)) (va_up nx' u (some k)) μ e9 e10 (by rw [head_snoc hthi]; exact e11) (by rw [last_snoc]; rfl) h_a h_tb h_q hN (hI.hiN hl) hU)
                    · have hyhi : hi = [] := last_none (Option.map_eq_none_iff.mp (e12.symm.trans c_280))
                      subst hyhi
                      refine v_aload (pc := 283) O dJ23_resize_283 rfl ?_
                      refine v_astore (pc := 285) (lv' := [(11, .ref (S.nd k)), (13, .ref (S.nd k1)), (0, .ref a), (1, .ref S.tb), (2, .int (nI S.cap)), (4, .int (nI (2 * S.cap))), (6, .ref q), (7, .int (nI j)), (8, .ref (S.nd k)), (9, (va_rf r9)), (10, (va_rf r10)), (12, (va_rf r12))]) O dJ23_resize_285 rfl (by simp [rf_cat]) ?_
                      refine v_goto (pc := 287) O (tgt := 297) dJ23_resize_287 (by decide) ?_
                      refine v_aload (pc := 297) O dJ23_resize_297 rfl ?_
                      refine v_astore (pc := 299) (lv' := [(12, .ref (S.nd k)), (11, .ref (S.nd k)), (13, .ref (S.nd k1)), (0, .ref a), (1, .ref S.tb), (2, .int (nI S.cap)), (4, .int (nI (2 * S.cap))), (6, .ref q), (7, .int (nI j)), (8, .ref (S.nd k)), (9, (va_rf r9)), (10, (va_rf r10))]) O dJ23_resize_299 rfl rfl ?_
                      refine v_aload (pc := 301) O dJ23_resize_301 rfl ?_
                      refine v_dup (pc := 303) O dJ23_resize_303 rfl ?_
                      refine v_astore (pc := 304) (lv' := [(8, .ref (S.nd k1)), (12, .ref (S.nd k)), (11, .ref (S.nd k)), (13, .ref (S.nd k1)), (0, .ref a), (1, .ref S.tb), (2, .int (nI S.cap)), (4, .int (nI (2 * S.cap))), (6, .ref q), (7, .int (nI j)), (9, (va_rf r9)), (10, (va_rf r10))]) O dJ23_resize_304 rfl rfl ?_
                      refine v_ifnonnull (pc := 306) O (tgt := 235) dJ23_resize_306 (by decide) ?_
                      exact v_locs [4, 5, 6, 7, 8, 9, 0, 10, 11, 2, 1] rfl (ih235 k1 lo [k] r9 r10 (some (S.nd k)) (some (S.nd k)) nx' μ e9 e10 rfl rfl h_a h_tb h_q hN (hI.hiE hl) hU)
                  · have hl : isLo S k = true := decide_eq_true c_249
                    refine v_aloadQ (pc := 252) O dJ23_resize_252 rfl ?_
                    refine v_ifnonnullQ (pc := 254) (tgt := 264) O dJ23_resize_254 (by decide) (fun x254_7 c_254 => ?_) (fun c_254 => ?_)
                    · obtain ⟨t, htlo, hxlo⟩ := Option.map_eq_some_iff.mp (e10.symm.trans c_254)
                      subst hxlo
                      subst c_254
                      obtain ⟨L, rfl⟩ := snoc_of htlo
                      have hmt : S.P t = true := (((hP.2.2 _ hjlt).2.2 t).mp (hI.2.2.2.2.1 t (by simp))).1
                      have hbt := hP.2.1 t hmt
                      have h_nt : μ (S.nd t) = some (.inr (12, [.int (hsh t), .ref (S.sp t), .ref (S.vl t), va_rf ((nx' t).map S.nd)]), c) := (hN t hmt).1
                      have h_st : μ (S.sp t) = some (.inr (6, [.int (nI t)]), 1) := (hN t hmt).2
                      refine v_aload (pc := 264) O dJ23_resize_264 rfl ?_
                      refine v_aload (pc := 266) O dJ23_resize_266 rfl ?_
                      refine w_put (pc := 268) O ci12 h_nt 3 rfl q1384 (fun _ h => h) rfl rfl rfl rfl dJ23_resize_268 (fun μ pp => ?_)
                      have h_a := pp.oth h_a (fun h => by cases h)
                      have h_tb := pp.oth h_tb (fun h => by cases h)
                      have h_q := pp.oth h_q (fun h => by cases h)
                      have hU := hU.trans (pp.upd rfl rfl)
                      have hN := hN.put (r := (some k)) hP.2.1 hmt pp
                      refine v_aload (pc := 271) O dJ23_resize_271 rfl ?_
                      refine v_astore (pc := 273) (lv' := [(10, .ref (S.nd k)), (13, .ref (S.nd k1)), (0, .ref a), (1, .ref S.tb), (2, .int (nI S.cap)), (4, .int (nI (2 * S.cap))), (6, .ref q), (7, .int (nI j)), (8, .ref (S.nd k)), (9, (va_rf r9)), (11, (va_rf r11)), (12, (va_rf r12))]) O dJ23_resize_273 rfl (by simp [rf_cat]) ?_
                      refine v_goto (pc := 275) O (tgt := 301) dJ23_resize_275 (by decide) ?_
                      refine v_aload (pc := 301) O dJ23_resize_301 rfl ?_
                      refine v_dup (pc := 303) O dJ23_resize_303 rfl ?_
                      refine v_astore (pc := 304) (lv' := [(8, .ref (S.nd k1)), (10, .ref (S.nd k)), (13, .ref (S.nd k1)), (0, .ref a), (1, .ref S.tb), (2, .int (nI S.cap)), (4, .int (nI (2 * S.cap))), (6, .ref q), (7, .int (nI j)), (9, (va_rf r9)), (11, (va_rf r11)), (12, (va_rf r12))]) O dJ23_resize_304 rfl rfl ?_
                      refine v_ifnonnull (pc := 306) O (tgt := 235) dJ23_resize_306 (by decide) ?_
                      exact v_locs [3, 4, 5, 6, 7, 8, 0, 9, 1, 10, 11] rfl (ih235 k1 (L ++ [t] ++ [k]) hi r9 (some (S.nd k)) r11 r12 (va_up nx' t (some k)) μ (by rw [head_snoc htlo]; exact e9) (by rw [last_snoc]; rfl) e11 e12 h_a h_tb h_q hN (hI.loN hl) hU)
                    · have hylo : lo = [] := last_none (Option.map_eq_none_iff.mp (e10.symm.trans c_254))
                      subst hylo
                      refine v_aload (pc := 257) O dJ23_resize_257 rfl ?_
                      refine v_astore (pc := 259) (lv' := [(9, .ref (S.nd k)), (13, .ref (S.nd k1)), (0, .ref a), (1, .ref S.tb), (2, .int (nI S.cap)), (4, .int (nI (2 * S.cap))), (6, .ref q), (7, .int (nI j)), (8, .ref (S.nd k)), (10, (va_rf r10)), (11, (va_rf r11)), (12, (va_rf r12))]) O dJ23_resize_259 rfl rfl ?_
                      refine v_goto (pc := 261) O (tgt := 271) dJ23_resize_261 (by decide) ?_
                      refine v_aload (pc := 271) O dJ23_resize_271 rfl ?_
                      refine v_astore (pc := 273) (lv' := [(10, .ref (S.nd k)), (9, .ref (S.nd k)), (13, .ref (S.nd k1)), (0, .ref a), (1, .ref S.tb), (2, .int (nI S.cap)), (4, .int (nI (2 * S.cap))), (6, .ref q), (7, .int (nI j)), (8, .ref (S.nd k)), (11, (va_rf r11)), (12, (va_rf r12))]) O dJ23_resize_273 rfl rfl ?_
                      refine v_goto (pc := 275) O (tgt := 301) dJ23_resize_275 (by decide) ?_
                      refine v_aload (pc := 301) O dJ23_resize_301 rfl ?_
                      refine v_dup (pc := 303) O dJ23_resize_303 rfl ?_
                      refine v_astore (pc := 304) (lv' := [(8, .ref (S.nd k1)), (10, .ref (S.nd k)), (9, .ref (S.nd k)), (13, .ref (S.nd k1)), (0, .ref a), (1, .ref S.tb), (2, .int (nI S.cap)), (4, .int (nI (2 * S.cap))), (6, .ref q), (7, .int (nI j)), (11, (va_rf r11)), (12, (va_rf r12))]) O dJ23_resize_304 rfl rfl ?_
                      refine v_ifnonnull (pc := 306) O (tgt := 235) dJ23_resize_306 (by decide) ?_
                      exact v_locs [4, 5, 6, 7, 8, 9, 0, 2, 1, 10, 11] rfl (ih235 k1 [k] hi (some (S.nd k)) (some (S.nd k)) r11 r12 nx' μ rfl rfl e11 e12 h_a h_tb h_q hN (hI.loE hl) hU)
              exact v_locs [5, 6, 7, 8, 9, 10, 4, 3, 2, 1, 0] rfl (L235 (k1 :: l1) k0 [] [] none none none none nx μ rfl rfl rfl rfl h_a h_tb h_q hN hI0 hU)
    exact v_locs [2, 3, 4, 5, 1, 0] rfl (L151 (S.cap + 1) 0 (fun _ => none) S.nx f (fun _ => none) μ (by omega) (by omega) h_a h_Stb h_q (fun i _ hi => hf i hi) (fun i _ => rfl) hN ⟨fun i hi => absurd hi (Nat.not_lt_zero _), fun i _ hi => ⟨(hP.2.2 i hi).1, rfl, rfl⟩⟩ hU)
  refine v_iload_n (pc := 24) O dJ23_resize_24 rfl ?_
  refine v_if_le (pc := 25) (tgt := 67) O dJ23_resize_25 (by decide) (fun c => absurd c (nI_nle0 (by omega) (by omega))) (fun _ => ?_)
  refine v_iload_n (pc := 28) O dJ23_resize_28 rfl ?_
  refine v_ldci (pc := 29) O dJ23_resize_29 q1337 ?_
  refine v_icmp_lt (pc := 31) (tgt := 42) O dJ23_resize_31 (by decide) (fun _ => ?_) (fun c => absurd (show nI S.cap < nI 1073741824 from nI_lt (by omega) (by omega)) c)
  refine v_iload_n (pc := 42) O dJ23_resize_42 rfl ?_
  refine v_iconst (pc := 43) O (x := 1) dJ23_resize_43 (by decide) ?_
  refine w_ishl (pc := 44) O (nI (2 * S.cap)) (nI_dbl (by omega)) dJ23_resize_44 ?_
  refine v_dup (pc := 45) O dJ23_resize_45 rfl ?_
  refine v_istore (pc := 46) (lv' := [(4, .int (nI (2 * S.cap))), (5, .int 0), (3, .int (nI (thrOf S.cap))), (2, .int (nI S.cap)), (1, .ref S.tb), (0, .ref a)]) O dJ23_resize_46 rfl rfl ?_
  refine v_ldci (pc := 48) O dJ23_resize_48 q1337 ?_
  refine v_icmp_ge (pc := 50) (tgt := 85) O dJ23_resize_50 (by decide) (fun c => absurd c (show ¬ nI 1073741824 ≤ nI (2 * S.cap) from nI_ge (by omega) (by omega))) (fun _ => ?_)
  refine v_iload_n (pc := 53) O dJ23_resize_53 rfl ?_
  refine v_bipush (pc := 54) O (x := 16) dJ23_resize_54 (by decide) ?_
  refine v_icmp_lt (pc := 56) (tgt := 85) O dJ23_resize_56 (by decide) (fun c_56 => ?_) (fun c_56 => ?_)
  · refine v_iload (pc := 85) O dJ23_resize_85 rfl ?_
    refine v_if_ne (pc := 87) (tgt := 125) O dJ23_resize_87 (by decide) (fun c => absurd (by decide) c) (fun _ => ?_)
    refine v_iload (pc := 90) O dJ23_resize_90 rfl ?_
    refine v_i2f (pc := 92) O dJ23_resize_92 ?_
    refine v_aload_n (pc := 93) O dJ23_resize_93 rfl ?_
    refine v_getf (pc := 94) O ci11 h_a 7 rfl q736 (fun _ h => h) rfl dJ23_resize_94 ?_
    refine v_fmul (pc := 97) O dJ23_resize_97 hthr.1 ?_
    refine v_fstore (pc := 98) (lv' := [(6, .float (FP.fmul (FP.i2f (nI (2 * S.cap))) LF)), (4, .int (nI (2 * S.cap))), (5, .int 0), (3, .int (nI (thrOf S.cap))), (2, .int (nI S.cap)), (1, .ref S.tb), (0, .ref a)]) O dJ23_resize_98 rfl rfl ?_
    refine v_iload (pc := 100) O dJ23_resize_100 rfl ?_
    refine v_ldci (pc := 102) O dJ23_resize_102 q1337 ?_
    refine v_icmp_ge (pc := 104) (tgt := 121) O dJ23_resize_104 (by decide) (fun c => absurd c (show ¬ nI 1073741824 ≤ nI (2 * S.cap) from nI_ge (by omega) (by omega))) (fun _ => ?_)
    refine v_fload (pc := 107) O dJ23_resize_107 rfl ?_
    refine v_ldcf (pc := 109) O dJ23_resize_109 q1347 ?_
    refine v_fcmp (pc := 111) O dJ23_resize_111 ?_
    rw [hthr.2.2]
    refine v_if_ge (pc := 112) (tgt := 121) O dJ23_resize_112 (by decide) (fun c => absurd c (by decide)) (fun _ => ?_)
    refine v_fload (pc := 115) O dJ23_resize_115 rfl ?_
    refine v_f2i (pc := 117) O dJ23_resize_117 ?_
    rw [hthr.2.1]
    refine v_goto (pc := 118) O (tgt := 123) dJ23_resize_118 (by decide) ?_
    refine v_istore (pc := 123) (lv' := [(5, .int (nI (thrOf (2 * S.cap)))), (6, .float (FP.fmul (FP.i2f (nI (2 * S.cap))) LF)), (4, .int (nI (2 * S.cap))), (3, .int (nI (thrOf S.cap))), (2, .int (nI S.cap)), (1, .ref S.tb), (0, .ref a)]) O dJ23_resize_123 rfl rfl ?_
    exact v_locs [6, 5, 4, 2, 0] rfl L125
  · have h16 : 16 ≤ S.cap := Nat.le_of_not_lt (fun z => c_56 (nI_lt (b := 16) z (by omega)))
    refine v_iload_n (pc := 59) O dJ23_resize_59 rfl ?_
    refine v_iconst (pc := 60) O (x := 1) dJ23_resize_60 (by decide) ?_
    refine w_ishl (pc := 61) O (nI (thrOf (2 * S.cap))) (thr_d hP hc h16) dJ23_resize_61 ?_
    refine v_istore (pc := 62) (lv' := [(5, .int (nI (thrOf (2 * S.cap)))), (4, .int (nI (2 * S.cap))), (3, .int (nI (thrOf S.cap))), (2, .int (nI S.cap)), (1, .ref S.tb), (0, .ref a)]) O dJ23_resize_62 rfl rfl ?_
    refine v_goto (pc := 64) O (tgt := 85) dJ23_resize_64 (by decide) ?_
    refine v_iload (pc := 85) O dJ23_resize_85 rfl ?_
    refine v_if_ne (pc := 87) (tgt := 125) O dJ23_resize_87 (by decide) (fun _ => ?_) (fun c => absurd c (nI_ne0 (thr_pos hcap.1) (thr_lt hcap.2)))
    exact v_locs [5, 4, 3, 1, 0] rfl L125
def emS (N q : Nat) : HS := (N, q, fun _ => none, fun _ => none, fun _ => 0, fun _ => 0, fun _ => 0, fun _ => false, fun _ => [])
theorem emS_ok {N q : Nat} (h : ∃ e, 1 ≤ e ∧ e ≤ 6 ∧ N = 2 ^ e) : HPs (emS N q) := ⟨h, (fun k h => by cases h), fun j _ => ⟨rfl, List.nodup_nil, fun k => ⟨(fun h => by cases h), (fun h => by cases h.1)⟩⟩⟩
theorem thr_f0 {N : Nat} (h : ∃ e, 1 ≤ e ∧ e ≤ 6 ∧ N = 2 ^ e) : vf_n32 (FP.fmul (FP.i2f (nI N)) LF) ∧ FP.f2i (FP.fmul (FP.i2f (nI N)) LF) = nI (thrOf N) ∧ Op.cmpValue (FP.fcmp (FP.fmul (FP.i2f (nI N)) LF) 1317011456) .g = -1 := by
  obtain ⟨e, h1, h2, rfl⟩ := h
  exact thr_fs ⟨e, by omega⟩ h1
theorem pow_le {N : Nat} (h : ∃ e, 1 ≤ e ∧ e ≤ 6 ∧ N = 2 ^ e) : 2 ≤ N ∧ N ≤ 64 := HPs.cap (emS_ok (q := 0) h)
set_option maxHeartbeats 4000000 in
theorem hm_resize16 (l : Launch) (Γ : Gm) {a c : Nat} {ks es : Value} {sz md : Int32} {μ0 : Mem} (h_a : μ0 a = some (.inr (11, [ks, .null, .null, es, .int sz, .int md, .int 0, .float LF]), c)) : MetV l Γ yJ23_resize cJ23_resize 14 (some (.array (.object "java/util/HashMap$Node"))) 1 1 16 [.ref a] μ0 (PR (fun q μ1 => μ1 a = some (.inr (11, [ks, .null, .ref q, es, .int sz, .int md, .int (nI (thrOf 16)), .float LF]), c) ∧ HN Γ c (emS 16 q) μ1 ∧ HPs (emS 16 q) ∧ Upd c μ0 μ1)) := by
  refine MetV.of (by decide +kernel) rfl ?_
  intro X sz_ hl hr hnm O
  subst hl
  have hU : Upd c μ0 μ0 := Upd.rf
  show V X Γ _ 14 _ 0 0 μ0 0 [(0, .ref a)] []
  refine v_aload_n (pc := 0) O dJ23_resize_0 rfl ?_
  refine v_getf (pc := 1) O ci11 h_a 2 rfl q729 (fun _ h => h) rfl dJ23_resize_1 ?_
  refine v_astore_nN (pc := 4) (lv' := [(1, .null), (0, .ref a)]) O dJ23_resize_4 rfl rfl ?_
  refine v_aload_nN (pc := 5) O dJ23_resize_5 rfl ?_
  refine v_ifnonnullN (pc := 6) O dJ23_resize_6 ?_
  refine v_iconst (pc := 9) O (x := 0) dJ23_resize_9 (by decide) ?_
  refine v_goto (pc := 10) O (tgt := 15) dJ23_resize_10 (by decide) ?_
  refine v_istore_n (pc := 15) (lv' := [(2, .int 0), (1, .null), (0, .ref a)]) O dJ23_resize_15 rfl rfl ?_
  refine v_aload_n (pc := 16) O dJ23_resize_16 rfl ?_
  refine v_getf (pc := 17) O ci11 h_a 6 rfl q735 (fun _ h => h) rfl dJ23_resize_17 ?_
  refine v_istore_n (pc := 20) (lv' := [(3, .int 0), (2, .int 0), (1, .null), (0, .ref a)]) O dJ23_resize_20 rfl rfl ?_
  refine v_iconst (pc := 21) O (x := 0) dJ23_resize_21 (by decide) ?_
  refine v_istore (pc := 22) (lv' := [(5, .int 0), (3, .int 0), (2, .int 0), (1, .null), (0, .ref a)]) O dJ23_resize_22 rfl rfl ?_
  refine v_iload_n (pc := 24) O dJ23_resize_24 rfl ?_
  refine v_if_le (pc := 25) (tgt := 67) O dJ23_resize_25 (by decide) (fun _ => ?_) (fun c => absurd (by decide) c)
  refine v_iload_n (pc := 67) O dJ23_resize_67 rfl ?_
  refine v_if_le (pc := 68) (tgt := 77) O dJ23_resize_68 (by decide) (fun _ => ?_) (fun c => absurd (by decide) c)
  refine v_bipush (pc := 77) O (x := 16) dJ23_resize_77 (by decide) ?_
  refine v_istore (pc := 79) (lv' := [(4, .int 16), (5, .int 0), (3, .int 0), (2, .int 0), (1, .null), (0, .ref a)]) O dJ23_resize_79 rfl rfl ?_
  refine v_bipush (pc := 81) O (x := 12) dJ23_resize_81 (by decide) ?_
  refine v_istore (pc := 83) (lv' := [(5, .int 12), (4, .int 16), (3, .int 0), (2, .int 0), (1, .null), (0, .ref a)]) O dJ23_resize_83 rfl rfl ?_
  refine v_iload (pc := 85) O dJ23_resize_85 rfl ?_
  refine v_if_ne (pc := 87) (tgt := 125) O dJ23_resize_87 (by decide) (fun _ => ?_) (fun c => absurd c (by decide))
  refine v_aload_n (pc := 125) O dJ23_resize_125 rfl ?_
  refine v_iload (pc := 126) O dJ23_resize_126 rfl ?_
  refine w_put (pc := 128) O ci11 h_a 6 rfl q735 (fun _ h => h) rfl rfl rfl rfl dJ23_resize_128 (fun μ pp => ?_)
  have h_a : μ a = some (.inr (11, [ks, .null, .null, es, .int sz, .int md, .int 12, .float LF]), c) := pp.2.1
  have hU := hU.trans (pp.upd rfl rfl)
  refine v_iload (pc := 131) O dJ23_resize_131 rfl ?_
  refine w_newq (pc := 133) O c 6 rfl q1348 (by decide) 16 (by decide) (by decide) (by decide) (by omega) (by omega) dJ23_resize_133 (fun q μ pp => ?_)
  have h_a := pp.oth h_a
  have h_q : μ q = some (.inl (Γ.2.1 6, 16, .inr (.inr (.inr (.inr (fun _ => none))))), c) := pp.2.1
  have hU := hU.trans (pp.upd rfl)
  refine v_astore (pc := 136) (lv' := [(6, .ref q), (5, .int 12), (4, .int 16), (3, .int 0), (2, .int 0), (1, .null), (0, .ref a)]) O dJ23_resize_136 rfl rfl ?_
  refine v_aload_n (pc := 138) O dJ23_resize_138 rfl ?_
  refine v_aload (pc := 139) O dJ23_resize_139 rfl ?_
  refine w_put (pc := 141) O ci11 h_a 2 rfl q729 (fun _ h => h) rfl rfl rfl rfl dJ23_resize_141 (fun μ pp => ?_)
  have h_q := pp.oth h_q (fun h => by cases h)
  have h_a : μ a = some (.inr (11, [ks, .null, .ref q, es, .int sz, .int md, .int 12, .float LF]), c) := pp.2.1
  have hU := hU.trans (pp.upd rfl rfl)
  refine v_aload_nN (pc := 144) O dJ23_resize_144 rfl ?_
  refine v_ifnullN (pc := 145) O (tgt := 353) dJ23_resize_145 (by decide) ?_
  refine v_aload (pc := 353) O dJ23_resize_353 rfl ?_
  exact v_aret (pc := 355) O hr (Or.inr ⟨_, rfl⟩) (by omega) (by omega) dJ23_resize_355 (Or.inr ⟨_, rfl⟩) ⟨q, rfl, ⟨h_a, ⟨⟨_, h_q, fun _ _ => rfl⟩, fun k h => by cases h⟩, emS_ok ⟨4, by decide, by decide, rfl⟩, hU⟩⟩
set_option maxHeartbeats 4000000 in
theorem hm_resizeT (l : Launch) (Γ : Gm) {a c : Nat} {ks es : Value} {sz md : Int32} {μ0 : Mem} {N : Nat} (hN : ∃ e, 1 ≤ e ∧ e ≤ 6 ∧ N = 2 ^ e) (h_a : μ0 a = some (.inr (11, [ks, .null, .null, es, .int sz, .int md, .int (nI N), .float LF]), c)) : MetV l Γ yJ23_resize cJ23_resize 14 (some (.array (.object "java/util/HashMap$Node"))) 1 1 N [.ref a] μ0 (PR (fun q μ1 => μ1 a = some (.inr (11, [ks, .null, .ref q, es, .int sz, .int md, .int (nI (thrOf N)), .float LF]), c) ∧ HN Γ c (emS N q) μ1 ∧ HPs (emS N q) ∧ Upd c μ0 μ1)) := by
  refine MetV.of (by decide +kernel) rfl ?_
  intro X sz_ hl hr hnm O
  subst hl
  have hU : Upd c μ0 μ0 := Upd.rf
  have hthr := thr_f0 hN
  have hcap := pow_le hN
  show V X Γ _ 14 _ 0 0 μ0 0 [(0, .ref a)] []
  refine v_aload_n (pc := 0) O dJ23_resize_0 rfl ?_
  refine v_getf (pc := 1) O ci11 h_a 2 rfl q729 (fun _ h => h) rfl dJ23_resize_1 ?_
  refine v_astore_nN (pc := 4) (lv' := [(1, .null), (0, .ref a)]) O dJ23_resize_4 rfl rfl ?_
  refine v_aload_nN (pc := 5) O dJ23_resize_5 rfl ?_
  refine v_ifnonnullN (pc := 6) O dJ23_resize_6 ?_
  refine v_iconst (pc := 9) O (x := 0) dJ23_resize_9 (by decide) ?_
  refine v_goto (pc := 10) O (tgt := 15) dJ23_resize_10 (by decide) ?_
  refine v_istore_n (pc := 15) (lv' := [(2, .int 0), (1, .null), (0, .ref a)]) O dJ23_resize_15 rfl rfl ?_
  refine v_aload_n (pc := 16) O dJ23_resize_16 rfl ?_
  refine v_getf (pc := 17) O ci11 h_a 6 rfl q735 (fun _ h => h) rfl dJ23_resize_17 ?_
  refine v_istore_n (pc := 20) (lv' := [(3, .int (nI N)), (2, .int 0), (1, .null), (0, .ref a)]) O dJ23_resize_20 rfl rfl ?_
  refine v_iconst (pc := 21) O (x := 0) dJ23_resize_21 (by decide) ?_
  refine v_istore (pc := 22) (lv' := [(5, .int 0), (3, .int (nI N)), (2, .int 0), (1, .null), (0, .ref a)]) O dJ23_resize_22 rfl rfl ?_
  refine v_iload_n (pc := 24) O dJ23_resize_24 rfl ?_
  refine v_if_le (pc := 25) (tgt := 67) O dJ23_resize_25 (by decide) (fun _ => ?_) (fun c => absurd (by decide) c)
  refine v_iload_n (pc := 67) O dJ23_resize_67 rfl ?_
  refine v_if_le (pc := 68) (tgt := 77) O dJ23_resize_68 (by decide) (fun c => absurd c (nI_nle0 (by omega) (by omega))) (fun _ => ?_)
  refine v_iload_n (pc := 71) O dJ23_resize_71 rfl ?_
  refine v_istore (pc := 72) (lv' := [(4, .int (nI N)), (5, .int 0), (3, .int (nI N)), (2, .int 0), (1, .null), (0, .ref a)]) O dJ23_resize_72 rfl rfl ?_
  refine v_goto (pc := 74) O (tgt := 85) dJ23_resize_74 (by decide) ?_
  refine v_iload (pc := 85) O dJ23_resize_85 rfl ?_
  refine v_if_ne (pc := 87) (tgt := 125) O dJ23_resize_87 (by decide) (fun c => absurd (by decide) c) (fun _ => ?_)
  refine v_iload (pc := 90) O dJ23_resize_90 rfl ?_
  refine v_i2f (pc := 92) O dJ23_resize_92 ?_
  refine v_aload_n (pc := 93) O dJ23_resize_93 rfl ?_
  refine v_getf (pc := 94) O ci11 h_a 7 rfl q736 (fun _ h => h) rfl dJ23_resize_94 ?_
  refine v_fmul (pc := 97) O dJ23_resize_97 hthr.1 ?_
  refine v_fstore (pc := 98) (lv' := [(6, .float (FP.fmul (FP.i2f (nI N)) LF)), (4, .int (nI N)), (5, .int 0), (3, .int (nI N)), (2, .int 0), (1, .null), (0, .ref a)]) O dJ23_resize_98 rfl rfl ?_
  refine v_iload (pc := 100) O dJ23_resize_100 rfl ?_
  refine v_ldci (pc := 102) O dJ23_resize_102 q1337 ?_
  refine v_icmp_ge (pc := 104) (tgt := 121) O dJ23_resize_104 (by decide) (fun c => absurd c (show ¬ nI 1073741824 ≤ nI N from nI_ge (by omega) (by omega))) (fun _ => ?_)
  refine v_fload (pc := 107) O dJ23_resize_107 rfl ?_
  refine v_ldcf (pc := 109) O dJ23_resize_109 q1347 ?_
  refine v_fcmp (pc := 111) O dJ23_resize_111 ?_
  rw [hthr.2.2]
  refine v_if_ge (pc := 112) (tgt := 121) O dJ23_resize_112 (by decide) (fun c => absurd c (by decide)) (fun _ => ?_)
  refine v_fload (pc := 115) O dJ23_resize_115 rfl ?_
  refine v_f2i (pc := 117) O dJ23_resize_117 ?_
  rw [hthr.2.1]
  refine v_goto (pc := 118) O (tgt := 123) dJ23_resize_118 (by decide) ?_
  refine v_istore (pc := 123) (lv' := [(5, .int (nI (thrOf N))), (6, .float (FP.fmul (FP.i2f (nI N)) LF)), (4, .int (nI N)), (3, .int (nI N)), (2, .int 0), (1, .null), (0, .ref a)]) O dJ23_resize_123 rfl rfl ?_
  refine v_aload_n (pc := 125) O dJ23_resize_125 rfl ?_
  refine v_iload (pc := 126) O dJ23_resize_126 rfl ?_
  refine w_put (pc := 128) O ci11 h_a 6 rfl q735 (fun _ h => h) rfl rfl rfl rfl dJ23_resize_128 (fun μ pp => ?_)
  have h_a : μ a = some (.inr (11, [ks, .null, .null, es, .int sz, .int md, .int (nI (thrOf N)), .float LF]), c) := pp.2.1
  have hU := hU.trans (pp.upd rfl rfl)
  refine v_iload (pc := 131) O dJ23_resize_131 rfl ?_
  refine w_newq (pc := 133) O c 6 rfl q1348 (by decide) N (nI_pos (by omega)) (nI_clamp (by omega)) (by omega) (by omega) (by omega) dJ23_resize_133 (fun q μ pp => ?_)
  have h_a := pp.oth h_a
  have h_q : μ q = some (.inl (Γ.2.1 6, N, .inr (.inr (.inr (.inr (fun _ => none))))), c) := pp.2.1
  have hU := hU.trans (pp.upd rfl)
  refine v_astore (pc := 136) (lv' := [(6, .ref q), (5, .int (nI (thrOf N))), (4, .int (nI N)), (3, .int (nI N)), (2, .int 0), (1, .null), (0, .ref a)]) O dJ23_resize_136 rfl rfl ?_
  refine v_aload_n (pc := 138) O dJ23_resize_138 rfl ?_
  refine v_aload (pc := 139) O dJ23_resize_139 rfl ?_
  refine w_put (pc := 141) O ci11 h_a 2 rfl q729 (fun _ h => h) rfl rfl rfl rfl dJ23_resize_141 (fun μ pp => ?_)
  have h_q := pp.oth h_q (fun h => by cases h)
  have h_a : μ a = some (.inr (11, [ks, .null, .ref q, es, .int sz, .int md, .int (nI (thrOf N)), .float LF]), c) := pp.2.1
  have hU := hU.trans (pp.upd rfl rfl)
  refine v_aload_nN (pc := 144) O dJ23_resize_144 rfl ?_
  refine v_ifnullN (pc := 145) O (tgt := 353) dJ23_resize_145 (by decide) ?_
  refine v_aload (pc := 353) O dJ23_resize_353 rfl ?_
  exact v_aret (pc := 355) O hr (Or.inr ⟨_, rfl⟩) (by omega) (by omega) dJ23_resize_355 (Or.inr ⟨_, rfl⟩) ⟨q, rfl, ⟨h_a, ⟨⟨_, h_q, fun _ _ => rfl⟩, fun k h => by cases h⟩, emS_ok hN, hU⟩⟩
