/-! HashMap: the inner loop of the split, pure. lo, hi: what was dealt out; R: what is left -/
def Inn (S : HS) (j : Nat) (nx nx' : Nat → Option Nat) (lo hi R : List Nat) : Prop :=
  (∀ k R', R = k :: R' → Path nx' (nx' k) R') ∧ (lo ++ hi ++ R).Nodup ∧ Seg nx' lo ∧ Seg nx' hi ∧ (∀ z ∈ lo ++ hi ++ R, z ∈ S.B j) ∧
  (S.B j).filter (isLo S) = lo ++ R.filter (isLo S) ∧ (S.B j).filter (fun k => !isLo S k) = hi ++ R.filter (fun k => !isLo S k) ∧ ∀ z, z ∉ S.B j → nx' z = nx z
theorem nod1 {lo hi R : List Nat} {k : Nat} (h : (lo ++ hi ++ k :: R).Nodup) : (lo ++ [k] ++ hi ++ R).Nodup := by
  refine (List.Perm.nodup_iff ?_).mp h
  rw [List.append_assoc, List.append_assoc, List.append_assoc]
  refine List.Perm.append_left lo ?_
  exact List.perm_middle
theorem nod2 {lo hi R : List Nat} {k : Nat} (h : (lo ++ hi ++ k :: R).Nodup) : (lo ++ (hi ++ [k]) ++ R).Nodup := by
  rw [List.append_assoc] at h
  rw [List.append_assoc, List.append_assoc]
  exact h
theorem mem1 {lo hi R B : List Nat} {k : Nat} (h : ∀ z ∈ lo ++ hi ++ k :: R, z ∈ B) : ∀ z ∈ lo ++ [k] ++ hi ++ R, z ∈ B := fun z hz => h z (by
  simp only [List.mem_append, List.mem_cons, List.not_mem_nil, or_false] at hz ⊢
  rcases hz with ((h | h) | h) | h
  · exact Or.inl (Or.inl h)
  · exact Or.inr (Or.inl h)
  · exact Or.inl (Or.inr h)
  · exact Or.inr (Or.inr h))
theorem mem2 {lo hi R B : List Nat} {k : Nat} (h : ∀ z ∈ lo ++ hi ++ k :: R, z ∈ B) : ∀ z ∈ lo ++ (hi ++ [k]) ++ R, z ∈ B := fun z hz => h z (by
  simp only [List.mem_append, List.mem_cons, List.not_mem_nil, or_false] at hz ⊢
  rcases hz with (h | h | h) | h
  · exact Or.inl (Or.inl h)
  · exact Or.inl (Or.inr h)
  · exact Or.inr (Or.inl h)
  · exact Or.inr (Or.inr h))
theorem tail_path {nx : Nat → Option Nat} {k : Nat} {R : List Nat} (h : Path nx (nx k) R) : ∀ k1 R', R = k1 :: R' → Path nx (nx k1) R' := fun k1 R' e => by
  subst e
  exact h.2
theorem path_up {nx : Nat → Option Nat} {k t : Nat} {r : Option Nat} {R : List Nat} (h : Path nx (nx k) R) (ht : t ∉ R) : ∀ k1 R', R = k1 :: R' → Path (va_up nx t r) (va_up nx t r k1) R' := fun k1 R' e => by
  subst e
  have h1 : k1 ≠ t := fun z => ht (by rw [z]; exact List.mem_cons_self)
  rw [va_up_ne _ _ h1]
  exact h.2.congr (fun z hz => va_up_ne _ _ (fun z2 => ht (by rw [← z2]; exact List.mem_cons_of_mem _ hz)))
theorem nod_t {L hi R : List Nat} {t k : Nat} (h : (L ++ [t] ++ hi ++ k :: R).Nodup) : t ∉ L ∧ t ∉ hi ∧ t ∉ R := by
  rw [List.append_assoc, List.append_assoc] at h
  have h1 := List.nodup_append.mp h
  have h2 := List.nodup_cons.mp (show (t :: (hi ++ k :: R)).Nodup from h1.2.1)
  refine ⟨fun z => ?_, fun z => h2.1 (List.mem_append_left _ z), fun z => h2.1 (List.mem_append_right _ (List.mem_cons_of_mem _ z))⟩
  exact h1.2.2 t z t (List.mem_cons_self) rfl
theorem nod_u {lo L R : List Nat} {t k : Nat} (h : (lo ++ (L ++ [t]) ++ k :: R).Nodup) : t ∉ L ∧ t ∉ lo ∧ t ∉ R := by
  have h0 : (L ++ [t] ++ lo ++ k :: R).Nodup := by
    refine (List.Perm.nodup_iff ?_).mp h
    exact List.Perm.append_right _ List.perm_append_comm
  exact nod_t h0
theorem Inn.loE {S : HS} {j k : Nat} {nx nx' : Nat → Option Nat} {hi R : List Nat} (h : Inn S j nx nx' [] hi (k :: R)) (hl : isLo S k = true) : Inn S j nx nx' [k] hi R := by
  obtain ⟨h1, h2, h3, h4, h5, h6, h7, h8⟩ := h
  refine ⟨tail_path (h1 k R rfl), nod1 h2, trivial, h4, mem1 h5, ?_, ?_, h8⟩
  · rw [h6, List.filter_cons_of_pos hl]; rfl
  · rw [h7, List.filter_cons_of_neg (by simp [hl])]
theorem Inn.loN {S : HS} {j k t : Nat} {nx nx' : Nat → Option Nat} {L hi R : List Nat} (h : Inn S j nx nx' (L ++ [t]) hi (k :: R)) (hl : isLo S k = true) : Inn S j nx (va_up nx' t (some k)) (L ++ [t] ++ [k]) hi R := by
  obtain ⟨h1, h2, h3, h4, h5, h6, h7, h8⟩ := h
  obtain ⟨n1, n2, n3⟩ := nod_t h2
  refine ⟨path_up (h1 k R rfl) n3, nod1 h2, Seg.snoc (va_up_self _ _ _) (fun z hz => va_up_ne _ _ (fun e => n1 (by rw [← e]; exact hz))) h3, h4.congr (fun z hz => va_up_ne _ _ (fun e => n2 (by rw [← e]; exact hz))), mem1 h5, ?_, ?_, fun z hz => ?_⟩
  · rw [h6, List.filter_cons_of_pos hl]; simp
  · rw [h7, List.filter_cons_of_neg (by simp [hl])]
  · rw [va_up_ne _ _ (fun e => hz (h5 z (by rw [e]; simp)))]
    exact h8 z hz
theorem Inn.hiE {S : HS} {j k : Nat} {nx nx' : Nat → Option Nat} {lo R : List Nat} (h : Inn S j nx nx' lo [] (k :: R)) (hl : isLo S k = false) : Inn S j nx nx' lo [k] R := by
  obtain ⟨h1, h2, h3, h4, h5, h6, h7, h8⟩ := h
  refine ⟨tail_path (h1 k R rfl), nod2 h2, h3, trivial, mem2 h5, ?_, ?_, h8⟩
  · rw [h6, List.filter_cons_of_neg (by simp [hl])]
  · rw [h7, List.filter_cons_of_pos (by simp [hl])]; rfl
theorem Inn.hiN {S : HS} {j k t : Nat} {nx nx' : Nat → Option Nat} {L lo R : List Nat} (h : Inn S j nx nx' lo (L ++ [t]) (k :: R)) (hl : isLo S k = false) : Inn S j nx (va_up nx' t (some k)) lo (L ++ [t] ++ [k]) R := by
  obtain ⟨h1, h2, h3, h4, h5, h6, h7, h8⟩ := h
  obtain ⟨n1, n2, n3⟩ := nod_u h2
  refine ⟨path_up (h1 k R rfl) n3, nod2 h2, h3.congr (fun z hz => va_up_ne _ _ (fun e => n2 (by rw [← e]; exact hz))), Seg.snoc (va_up_self _ _ _) (fun z hz => va_up_ne _ _ (fun e => n1 (by rw [← e]; exact hz))) h4, mem2 h5, ?_, ?_, fun z hz => ?_⟩
  · rw [h6, List.filter_cons_of_neg (by simp [hl])]
  · rw [h7, List.filter_cons_of_pos (by simp [hl])]; simp
  · rw [va_up_ne _ _ (fun e => hz (h5 z (by rw [e]; simp)))]
    exact h8 z hz
theorem Inn.st {S : HS} {j k0 : Nat} {nx : Nat → Option Nat} {l : List Nat} (hP : HPs S) (hj : j < S.cap) (hB : S.B j = k0 :: l) (hp : Path nx (nx k0) l) : Inn S j nx nx [] [] (k0 :: l) := by
  refine ⟨fun k R' e => ?_, by rw [← hB]; exact (hP.2.2 j hj).2.1, trivial, trivial, fun z hz => by rw [hB]; exact hz, by rw [hB]; rfl, by rw [hB]; rfl, fun _ _ => rfl⟩
  injection e with e1 e2
  subst e1; subst e2
  exact hp
/-- both halves' ends are cut, and they go into their places -/
theorem Dn.two {S : HS} {j : Nat} {hd nx hd' nx' nx'' : Nat → Option Nat} {lo hi : List Nat} (hP : HPs S) (hD : Dn S j hd nx) (hj : j < S.cap) (h : Inn S j nx nx' lo hi [])
    (n1 : ∀ z, lo.getLast? ≠ some z → hi.getLast? ≠ some z → nx'' z = nx' z) (n2 : ∀ t, lo.getLast? = some t → nx'' t = Option.none) (n3 : ∀ u, hi.getLast? = some u → nx'' u = Option.none) (d1 : ∀ i, i ≠ j → i ≠ j + S.cap → hd' i = hd i) (d2 : hd' j = lo.head?) (d3 : hd' (j + S.cap) = hi.head?) : Dn S (j + 1) hd' nx'' := by
  obtain ⟨-, h2, h3, h4, h5, h6, h7, h8⟩ := h
  rw [List.append_nil] at h2
  have hnd := List.nodup_append.mp h2
  have hmem : ∀ z, z ∈ lo ∨ z ∈ hi → z ∈ S.B j := fun z hz => h5 z (by rw [List.append_nil]; exact List.mem_append.mpr hz)
  have lastm : ∀ {l : List Nat} {z : Nat}, l.getLast? = some z → z ∈ l := fun hz => List.mem_of_getLast? hz
  refine hD.step hP hj (fun z hz => ?_) d1 ?_ ?_
  · rw [n1 z (fun e => hz (hmem z (Or.inl (lastm e)))) (fun e => hz (hmem z (Or.inr (lastm e))))]
    exact h8 z hz
  · rw [spB_lo hj, h6, List.filter_nil, List.append_nil, d2]
    cases hl : lo.getLast? with
    | none => rw [last_none hl]; exact rfl
    | some t =>
      obtain ⟨L, rfl⟩ := snoc_of hl
      refine Seg.path (n2 t hl) (fun z hz => n1 z (fun e => ?_) (fun e => ?_)) h3
      · rw [hl] at e
        have e2 := Option.some.inj e
        subst e2
        exact (List.nodup_append.mp hnd.1).2.2 t hz t List.mem_cons_self rfl
      · exact hnd.2.2 z (List.mem_append_left _ hz) z (lastm e) rfl
  · rw [spB_hi, h7, List.filter_nil, List.append_nil, d3]
    cases hl : hi.getLast? with
    | none => rw [last_none hl]; exact rfl
    | some t =>
      obtain ⟨L, rfl⟩ := snoc_of hl
      refine Seg.path (n3 t hl) (fun z hz => n1 z (fun e => ?_) (fun e => ?_)) h4
      · exact hnd.2.2 z (lastm e) z (List.mem_append_left _ hz) rfl
      · rw [hl] at e
        have e2 := Option.some.inj e
        subst e2
        exact (List.nodup_append.mp hnd.2.1).2.2 t hz t List.mem_cons_self rfl
theorem snoc_head {L : List Nat} {t : Nat} : ∃ h, (L ++ [t]).head? = some h ∧ h ∈ L ++ [t] := by
  cases L with
  | nil => exact ⟨t, rfl, List.mem_cons_self⟩
  | cons a r => exact ⟨a, rfl, List.mem_cons_self⟩
