/-! THE SPECIFICATION: one pure state for both sides (σ f i: field f of the reference, place i; scalars at place 0), and what each call answers and does to it. Fields: 0 time 1 skews 2 met 3 isDown 4 ranges 5 begins 6 nodes 7 owner 8 isSure 9 meant 10 readAt 11 readBy 12 versions 13 vKey 14 vStamp 15 vValue 16 many 17 home 18 rank 19 reads 20 writes 21 doubt 22 beaten 23 state 24 waits 25 committedAs 26 commits 27 doubtAt 28 valueRead 29 valueWritten 30 once 31 thrown -/
abbrev St : Type := Nat → Int32 → Int32
def sset (σ : St) (f : Nat) (i v : Int32) : St := fun g j => if g = f then (if j = i then v else σ g j) else σ g j
theorem sset_eq {σ : St} {f : Nat} {i v : Int32} : sset σ f i v f i = v := by simp [sset]
theorem sset_f {σ : St} {f g : Nat} {i j v : Int32} (h : g ≠ f) : sset σ f i v g j = σ g j := by simp [sset, h]
theorem sset_i {σ : St} {f : Nat} {i j v : Int32} (h : j ≠ i) : sset σ f i v f j = σ f j := by simp [sset, h]
theorem sset_id {σ : St} {f : Nat} {i v : Int32} (h : σ f i = v) : sset σ f i v = σ := by
  funext g j
  unfold sset
  split
  · split
    · next h1 h2 => rw [h1, h2, h]
    · rfl
  · rfl
def b2i (b : Bool) : Int32 := match b with
  | true => 1
  | false => 0
/-! recursion that no unifier unfolds -/
theorem b2i_0 {b : Bool} (h : b2i b = 0) : b = false := by
  cases b
  · rfl
  · exact absurd h (by decide)
theorem b2i_n0 {b : Bool} (h : ¬ b2i b = 0) : b = true := by
  cases b
  · exact absurd rfl h
  · rfl
theorem oRec_ex {β : Type} (z : β) (s : Nat → β → β) : ∃ F : Nat → β, F 0 = z ∧ ∀ n, F (n + 1) = s n (F n) := ⟨fun n => Nat.rec z s n, rfl, fun _ => rfl⟩
noncomputable def oRec {β : Type} (z : β) (s : Nat → β → β) : Nat → β := Classical.choose (oRec_ex z s)
theorem oRec_0 {β : Type} {z : β} {s : Nat → β → β} : oRec z s 0 = z := (Classical.choose_spec (oRec_ex z s)).1
theorem oRec_s {β : Type} {z : β} {s : Nat → β → β} {n : Nat} : oRec z s (n + 1) = s n (oRec z s n) := (Classical.choose_spec (oRec_ex z s)).2 n
/-- n steps of f, its counter from 0 on -/
noncomputable def iter {α : Type} (f : Nat → α → α) (n : Nat) (a : α) : α := oRec a f n
theorem iter_0 {α : Type} {f : Nat → α → α} {a : α} : iter f 0 a = a := oRec_0
theorem iter_s {α : Type} {f : Nat → α → α} {n : Nat} {a : α} : iter f (n + 1) a = f n (iter f n a) := oRec_s
def nat (x : Int32) : Nat := x.toNatClampNeg
def inB (v lo hi : Int32) : Bool := !decide (v < lo) && !decide (hi < v)
def gt2 (a b : Int32) : Int32 := if a ≤ b then b else a
/-! time, nodes, ranges -/
noncomputable def passO (σ : St) (t : Int32) : St × Int32 :=
  if inB t 1 50 = true then (if σ 0 0 + t ≤ 2000 then (sset (sset σ 31 0 0) 0 0 (σ 0 0 + t), σ 0 0 + t) else (sset σ 31 0 2, 0)) else (sset σ 31 0 1, 0)
noncomputable def skewO (σ : St) (x k : Int32) : St × Int32 :=
  if inB x 0 3 = true then (if inB k (-5) 5 = true then (sset (sset σ 31 0 0) 1 x k, σ 1 x) else (sset σ 31 0 2, 0)) else (sset σ 31 0 1, 0)
noncomputable def asksF (σ : St) (x : Int32) : Int32 := gt2 (10 * (σ 0 0 + σ 1 x)) (σ 2 x + 1)
noncomputable def asksS (σ : St) (x : Int32) : St := sset σ 2 x (asksF σ x)
noncomputable def clockO (σ : St) (x : Int32) : St × Int32 :=
  if inB x 0 3 = true then (if σ 3 x = 0 then (asksS (sset σ 31 0 0) x, asksF σ x) else (sset σ 31 0 2, 0)) else (sset σ 31 0 1, 0)
noncomputable def closedF (σ : St) : Int32 := gt2 0 (10 * (σ 0 0 - 15))
noncomputable def rngGo (σ : St) (key : Int32) : Nat → Int32 → Int32 := oRec (fun r => r) (fun _ go r => if r + 1 < σ 4 0 ∧ σ 5 (r + 1) ≤ key then go (r + 1) else r)
theorem rngGo_0 {σ : St} {key r : Int32} : rngGo σ key 0 r = r := by unfold rngGo; rw [oRec_0]
theorem rngGo_s {σ : St} {key r : Int32} {n : Nat} : rngGo σ key (n + 1) r = if r + 1 < σ 4 0 ∧ σ 5 (r + 1) ≤ key then rngGo σ key n (r + 1) else r := by unfold rngGo; rw [oRec_s]
noncomputable def rangeOfF (σ : St) (key : Int32) : Int32 := rngGo σ key 32 0
noncomputable def nodeOfF (σ : St) (key : Int32) : Int32 := σ 6 (rangeOfF σ key)
noncomputable def downStep (x : Int32) (k : Nat) (p : St × Int32) : St × Int32 :=
  if nodeOfF p.1 (nI k) = x ∧ ¬ p.1 7 (nI k) = -1 ∧ p.1 8 (nI k) = 0 then (sset p.1 7 (nI k) (-1), p.2 + 1) else p
noncomputable def downO (σ : St) (x : Int32) : St × Int32 :=
  if inB x 0 3 = true then (if σ 3 x = 0 then iter (downStep x) 32 (sset (sset σ 31 0 0) 3 x 1, 0) else (sset σ 31 0 2, 0)) else (sset σ 31 0 1, 0)
noncomputable def coversS (σ : St) (key st : Int32) : St := if st ≤ σ 10 key then σ else sset (sset σ 10 key st) 11 key (-2)
noncomputable def upStep (x st : Int32) (k : Nat) (σ : St) : St := if nodeOfF σ (nI k) = x then coversS σ (nI k) st else σ
noncomputable def upO (σ : St) (x : Int32) : St × Int32 :=
  if inB x 0 3 = true then (if σ 3 x = 0 then (sset σ 31 0 2, 0) else (iter (upStep x (asksF σ x)) 32 (asksS (sset (sset σ 31 0 0) 3 x 0) x), asksF σ x)) else (sset σ 31 0 1, 0)
noncomputable def syncStep (x : Int32) (k : Nat) (p : St × Int32) : St × Int32 :=
  if nodeOfF p.1 (nI k) = x ∧ ¬ p.1 7 (nI k) = -1 ∧ p.1 8 (nI k) = 0 then (sset p.1 8 (nI k) 1, p.2 + 1) else p
noncomputable def syncO (σ : St) (x : Int32) : St × Int32 :=
  if inB x 0 3 = true then (if σ 3 x = 0 then iter (syncStep x) 32 (sset σ 31 0 0, 0) else (sset σ 31 0 2, 0)) else (sset σ 31 0 1, 0)
/-- from the last range down to the one behind at: each gets its forerunner's -/
noncomputable def shUp (r0 : Int32) (k : Nat) (σ : St) : St := sset (sset σ 5 (r0 - nI k) (σ 5 (r0 - nI k - 1))) 6 (r0 - nI k) (σ 6 (r0 - nI k - 1))
noncomputable def splitO (σ : St) (key : Int32) : St × Int32 :=
  if inB key 1 31 = true then
    (if σ 5 (rangeOfF σ key) = key then (sset σ 31 0 2, 0) else
      let at' := rangeOfF σ key + 1
      let σ1 := iter (shUp (σ 4 0)) (nat (σ 4 0 - at')) (sset σ 31 0 0)
      (sset (sset (sset σ1 5 at' key) 6 at' (σ1 6 (at' - 1))) 4 0 (σ 4 0 + 1), σ 4 0 + 1))
  else (sset σ 31 0 1, 0)
noncomputable def shDown (r0 : Int32) (k : Nat) (σ : St) : St := sset (sset σ 5 (r0 + nI k) (σ 5 (r0 + nI k + 1))) 6 (r0 + nI k) (σ 6 (r0 + nI k + 1))
noncomputable def mergeO (σ : St) (r : Int32) : St × Int32 :=
  if inB r 0 (σ 4 0 - 2) = true then
    (if σ 6 r = σ 6 (r + 1) then (iter (shDown (r + 1)) (nat (σ 4 0 - 1 - (r + 1))) (sset (sset σ 31 0 0) 4 0 (σ 4 0 - 1)), σ 4 0 - 1) else (sset σ 31 0 2, 0))
  else (sset σ 31 0 1, 0)
noncomputable def moveStep (r st : Int32) (k : Nat) (σ : St) : St := if rangeOfF σ (nI k) = r then coversS σ (nI k) st else σ
noncomputable def moveO (σ : St) (r x : Int32) : St × Int32 :=
  if inB r 0 (σ 4 0 - 1) = true ∧ inB x 0 3 = true then
    (if σ 3 x = 0 ∧ σ 3 (σ 6 r) = 0 then (sset (iter (moveStep r (asksF σ (σ 6 r))) 32 (asksS (sset σ 31 0 0) (σ 6 r))) 6 r x, σ 6 r) else (sset σ 31 0 2, 0))
  else (sset σ 31 0 1, 0)
/-! transactions -/
noncomputable def forgStep (t : Int32) (k : Nat) (σ : St) : St := sset (sset σ 28 (32 * t + nI k) (-1)) 29 (32 * t + nI k) (-1)
noncomputable def forgetsS (σ : St) (t : Int32) : St := iter (forgStep t) 32 σ
noncomputable def datStep (t : Int32) (k : Nat) (σ : St) : St := sset σ 27 (4 * t + nI k) (-1)
noncomputable def beginS (σ : St) (x rk : Int32) : St :=
  let t := σ 16 0
  let a := asksF σ x
  let σ1 := sset (sset (sset (sset σ 31 0 0) 16 0 (t + 1)) 17 t x) 18 t rk
  let σ2 := sset (sset (asksS σ1 x) 19 t a) 20 t a
  let σ3 := sset (sset (sset (sset σ2 21 t (a + 100)) 22 t (σ 0 0)) 23 t 0) 24 t (-1)
  forgetsS (iter (datStep t) 4 σ3) t
noncomputable def beginO (σ : St) (x rk : Int32) : St × Int32 :=
  if inB x 0 3 = true then (if inB rk 0 9 = true then (if σ 3 x = 0 ∧ ¬ σ 16 0 = 40 then (beginS σ x rk, σ 16 0) else (sset σ 31 0 3, 0)) else (sset σ 31 0 2, 0)) else (sset σ 31 0 1, 0)
noncomputable def vanB (σ : St) (t : Int32) : Bool := (decide (σ 23 t = 0) || decide (σ 23 t = 1)) && !decide (σ 0 0 ≤ σ 22 t + 20)
noncomputable def comStep (t : Int32) (k : Nat) (σ : St) : St :=
  if σ 7 (nI k) = t then sset (sset (sset (sset (sset σ 13 (σ 12 0) (nI k)) 14 (σ 12 0) (σ 20 t)) 15 (σ 12 0) (σ 9 (nI k))) 12 0 (σ 12 0 + 1)) 7 (nI k) (-1) else σ
noncomputable def commitsS (σ : St) (t : Int32) : St := iter (comStep t) 32 (sset (sset (sset σ 23 t 2) 25 t (σ 26 0)) 26 0 (σ 26 0 + 1))
noncomputable def hasAllB (σ : St) (t : Int32) : Bool := (List.range 32).all fun k => decide (σ 29 (32 * t + nI k) = -1) || decide (σ 7 (nI k) = t)
noncomputable def recoversS (σ : St) (t : Int32) : St := if hasAllB σ t = true then commitsS σ t else sset σ 23 t 3
/-- meets: what the intent of another comes to; and who is in the way -/
noncomputable def meetsS1 (σ : St) (o : Int32) : St := if σ 23 o = 1 then recoversS σ o else σ
noncomputable def meetsS2 (σ : St) (o : Int32) : St := if vanB σ o = true then sset σ 23 o 3 else σ
noncomputable def meetsS3 (σ : St) (o key : Int32) : St := if σ 23 o = 3 then sset σ 7 key (-1) else σ
noncomputable def meetsS (σ : St) (t key : Int32) : St := if σ 7 key = -1 ∨ σ 7 key = t then σ else meetsS3 (meetsS2 (meetsS1 σ (σ 7 key)) (σ 7 key)) (σ 7 key) key
noncomputable def meetsF (σ : St) (t key : Int32) : Int32 := if σ 7 key = -1 ∨ σ 7 key = t then -1 else (if meetsS σ t key 23 (σ 7 key) = 0 then σ 7 key else -1)
noncomputable def latStep (σ : St) (key st : Int32) (k : Nat) (b : Int32) : Int32 := if σ 13 (nI k) = key ∧ ¬ st < σ 14 (nI k) then gt2 b (σ 14 (nI k)) else b
noncomputable def latestF (σ : St) (key st : Int32) : Int32 := iter (latStep σ key st) (nat (σ 12 0)) (-1)
noncomputable def valStep (σ : St) (key at' : Int32) (k : Nat) (b : Int32) : Int32 := if σ 13 (nI k) = key ∧ σ 14 (nI k) = at' then σ 15 (nI k) else b
noncomputable def valueAtF (σ : St) (key st : Int32) : Int32 := iter (valStep σ key (latestF σ key st)) (nat (σ 12 0)) 1000
noncomputable def marksS (σ : St) (t key st : Int32) : St := if st ≤ σ 10 key then (if st = σ 10 key ∧ ¬ σ 11 key = t then sset σ 11 key (-2) else σ) else sset (sset σ 10 key st) 11 key t
/-- the first loop of refreshes: the state, and whether it still can -/
noncomputable def refStep (t to : Int32) (k : Nat) (p : St × Bool) : St × Bool :=
  if p.2 = true then
    (if p.1 28 (32 * t + nI k) = -1 then p else
      (if p.1 3 (nodeOfF p.1 (nI k)) = 0 then
        (meetsS p.1 t (nI k), !(decide (¬ meetsF p.1 t (nI k) = -1 ∧ meetsS p.1 t (nI k) 20 (meetsF p.1 t (nI k)) ≤ to) || !decide (latestF (meetsS p.1 t (nI k)) (nI k) to ≤ meetsS p.1 t (nI k) 19 t)))
      else (p.1, false)))
  else p
noncomputable def refMark (t to : Int32) (k : Nat) (σ : St) : St := if σ 28 (32 * t + nI k) = -1 then σ else marksS σ t (nI k) to
noncomputable def refB (σ : St) (t to : Int32) : Bool := (iter (refStep t to) 32 (σ, true)).2
noncomputable def refS (σ : St) (t to : Int32) : St := if refB σ t to = true then iter (refMark t to) 32 (iter (refStep t to) 32 (σ, true)).1 else (iter (refStep t to) 32 (σ, true)).1
noncomputable def resStep (t : Int32) (k : Nat) (σ : St) : St := if σ 7 (nI k) = t then sset σ 7 (nI k) (-1) else σ
noncomputable def restartsS (σ : St) (t st : Int32) : St :=
  let σ1 := forgetsS (iter (resStep t) 32 σ) t
  sset (sset σ1 19 t (gt2 st (σ1 20 t))) 20 t (gt2 st (σ1 20 t))
noncomputable def waitsF (σ : St) (t : Int32) : Int32 := if σ 23 t = 0 ∧ ¬ σ 24 t = -1 ∧ σ 23 (σ 24 t) = 0 then σ 24 t else -1
noncomputable def lessB (σ : St) (at' v : Int32) : Bool := decide (σ 18 at' < σ 18 v) || (decide (σ 18 at' = σ 18 v) && !decide (at' ≤ v))
/-- the ring's walk: (victim, at) after at most n steps -/
noncomputable def ringGo (σ : St) (t : Int32) : Nat → Int32 × Int32 → Int32 × Int32 := oRec (fun p => p) (fun _ go p => if p.2 = -1 ∨ p.2 = t then p else go (if lessB σ p.2 p.1 = true then p.2 else p.1, waitsF σ p.2))
theorem ringGo_0 {σ : St} {t : Int32} {p : Int32 × Int32} : ringGo σ t 0 p = p := by unfold ringGo; rw [oRec_0]
theorem ringGo_s {σ : St} {t : Int32} {n : Nat} {p : Int32 × Int32} : ringGo σ t (n + 1) p = if p.2 = -1 ∨ p.2 = t then p else ringGo σ t n (if lessB σ p.2 p.1 = true then p.2 else p.1, waitsF σ p.2) := by unfold ringGo; rw [oRec_s]
noncomputable def anewP (σ : St) (t o : Int32) : Int32 × Int32 := ringGo (sset σ 24 t o) t 40 (t, o)
noncomputable def anewS (σ : St) (t o : Int32) : St := if (anewP σ t o).2 = t then sset (sset (sset σ 24 t o) 23 (anewP σ t o).1 3) 24 t (-1) else sset σ 24 t o
noncomputable def anewB (σ : St) (t o : Int32) : Bool := decide ((anewP σ t o).2 = t) && !decide ((anewP σ t o).1 = t)
noncomputable def waitAnsF (σ : St) (t : Int32) : Int32 := if σ 23 t = 0 then -11 else -13
noncomputable def opensF (σ : St) (t key : Int32) : Int32 := if σ 23 t = 0 then (if σ 3 (σ 17 t) = 0 ∧ σ 3 (nodeOfF σ key) = 0 then 0 else -14) else -13
noncomputable def opensS1 (σ : St) (t key : Int32) : St := sset (sset σ 24 t (-1)) 2 (nodeOfF σ key) (gt2 (σ 2 (nodeOfF σ key)) (σ 19 t))
noncomputable def opensS (σ : St) (t key : Int32) : St :=
  if opensF σ t key = 0 then
    (if σ 27 (4 * t + nodeOfF σ key) = -1 then sset (asksS (opensS1 σ t key) (nodeOfF σ key)) 27 (4 * t + nodeOfF σ key) (if σ 21 t ≤ asksF (opensS1 σ t key) (nodeOfF σ key) then σ 21 t else asksF (opensS1 σ t key) (nodeOfF σ key)) else opensS1 σ t key)
  else σ
/-- one turn of get's loop: answered, or once more -/
noncomputable def getTurn (σ : St) (t key there : Int32) : (St × Int32) ⊕ St :=
  let o := meetsF σ t key
  let σ1 := meetsS σ t key
  let most := gt2 (σ1 19 t) there
  if ¬ o = -1 ∧ ¬ most < σ1 20 o ∧ σ1 18 t ≤ σ1 18 o then
    (if anewB σ1 t o = true then .inr (anewS σ1 t o) else .inl (anewS σ1 t o, waitAnsF (anewS σ1 t o) t))
  else
    let σ2 := if ¬ o = -1 ∧ ¬ most < σ1 20 o then sset σ1 20 o (most + 1) else σ1
    let nw := latestF σ2 key there
    if nw ≤ σ2 19 t then
      let v := valueAtF σ2 key (σ2 19 t)
      .inl (marksS (sset σ2 28 (32 * t + key) v) t key (σ2 19 t), v)
    else if refB σ2 t nw = true then .inr (sset (sset (refS σ2 t nw) 19 t nw) 20 t (gt2 (refS σ2 t nw 20 t) nw))
    else .inl (restartsS (refS σ2 t nw) t nw, -12)
noncomputable def getGo (t key there : Int32) : Nat → St → St × Int32 := oRec (fun σ => (σ, 0)) (fun _ go σ => match getTurn σ t key there with
    | .inl r => r
    | .inr σ' => go σ')
theorem getGo_l {t key there : Int32} {n : Nat} {σ : St} {r : St × Int32} (h : getTurn σ t key there = .inl r) : getGo t key there (n + 1) σ = r := by unfold getGo; rw [oRec_s, h]
theorem getGo_r {t key there : Int32} {n : Nat} {σ σ' : St} (h : getTurn σ t key there = .inr σ') : getGo t key there (n + 1) σ = getGo t key there n σ' := by unfold getGo; rw [oRec_s, h]
noncomputable def thereB (σ : St) (t key : Int32) : Bool := inB t 0 (σ 16 0 - 1) && inB key 0 31
/-- turns enough: those that stand, and the stamps between -/
def gFuel (σ : St) (t there : Int32) : Nat := 41 + (there.toInt - (σ 19 t).toInt).toNat
noncomputable def getO (σ : St) (t key : Int32) : St × Int32 :=
  if thereB σ t key = true then
    let σ0 := sset σ 31 0 0
    if opensF σ0 t key = 0 then
      let σ1 := opensS σ0 t key
      if σ1 29 (32 * t + key) = -1 then getGo t key (σ1 27 (4 * t + nodeOfF σ1 key)) (gFuel σ1 t (σ1 27 (4 * t + nodeOfF σ1 key))) σ1 else (σ1, σ1 29 (32 * t + key))
    else (σ0, opensF σ0 t key)
  else (sset σ 31 0 1, 0)
noncomputable def putEnd (σ : St) (t key v : Int32) : St :=
  let σ1 := sset σ 20 t (gt2 (σ 20 t) (latestF σ key 1000000 + 1))
  let σ2 := sset σ1 20 t (if σ1 11 key = t then σ1 20 t else gt2 (σ1 20 t) (σ1 10 key + 1))
  sset (sset (sset (sset σ2 7 key t) 8 key 0) 9 key v) 29 (32 * t + key) v
/-- put's loop: σ has just met, o is in the way -/
noncomputable def putTurn (σ : St) (t key v : Int32) : (St × Int32) ⊕ St :=
  let o := meetsF σ t key
  let σ1 := meetsS σ t key
  if o = -1 then .inl (putEnd σ1 t key v, 0)
  else if σ1 18 t ≤ σ1 18 o then
    (if anewB σ1 t o = true then .inr (anewS σ1 t o) else .inl (anewS σ1 t o, waitAnsF (anewS σ1 t o) t))
  else .inr (sset (sset σ1 23 o 3) 7 key (-1))
noncomputable def putGo (t key v : Int32) : Nat → St → St × Int32 := oRec (fun σ => (σ, 0)) (fun _ go σ => match putTurn σ t key v with
    | .inl r => r
    | .inr σ' => go σ')
theorem putGo_l {t key v : Int32} {n : Nat} {σ : St} {r : St × Int32} (h : putTurn σ t key v = .inl r) : putGo t key v (n + 1) σ = r := by unfold putGo; rw [oRec_s, h]
theorem putGo_r {t key v : Int32} {n : Nat} {σ σ' : St} (h : putTurn σ t key v = .inr σ') : putGo t key v (n + 1) σ = putGo t key v n σ' := by unfold putGo; rw [oRec_s, h]
noncomputable def putO (σ : St) (t key v : Int32) : St × Int32 :=
  if thereB σ t key = true then
    (if inB v 0 1000 = true then
      let σ0 := sset (sset σ 31 0 0) 31 0 0
      (if opensF σ0 t key = 0 then putGo t key v 41 (opensS σ0 t key) else (σ0, opensF σ0 t key))
    else (sset (sset σ 31 0 0) 31 0 2, 0))
  else (sset σ 31 0 1, 0)
noncomputable def cntStep (σ : St) (f : Nat) (t : Int32) (k : Nat) (n : Int32) : Int32 := if σ f (32 * t + nI k) = -1 then n else n + 1
noncomputable def countsF (σ : St) (f : Nat) (t : Int32) : Int32 := iter (cntStep σ f t) 32 0
noncomputable def transB (σ : St) (t : Int32) : Bool := inB t 0 (σ 16 0 - 1)
noncomputable def hasDownB (σ : St) (t : Int32) : Bool := !decide (σ 3 (σ 17 t) = 0) || (List.range 32).any fun k => !decide (σ 29 (32 * t + nI k) = -1) && !decide (σ 3 (nodeOfF σ (nI k)) = 0)
noncomputable def comEnd (σ : St) (t : Int32) (staged : Bool) (writing : Bool) : St × Int32 :=
  if hasAllB σ t = true then (if (staged && writing) = true then (sset σ 23 t 1, 0) else (commitsS σ t, 0)) else (sset σ 23 t 3, -13)
noncomputable def commitO (σ : St) (t : Int32) (stg : Int32) : St × Int32 :=
  if transB σ t = true then
    let σ0 := sset σ 31 0 0
    if σ 23 t = 0 then
      (if hasDownB σ0 t = true then (σ0, -14) else
        let σ1 := sset σ0 24 t (-1)
        let writing := !decide (countsF σ1 29 t ≤ 0)
        let σ2 := sset σ1 20 t (if writing = true then gt2 (σ1 20 t) (closedF σ1 + 1) else σ1 20 t)
        if σ2 20 t ≤ σ2 19 t then comEnd σ2 t (!decide (stg = 0)) writing
        else if refB σ2 t (σ2 20 t) = true then comEnd (sset (refS σ2 t (σ2 20 t)) 19 t (refS σ2 t (σ2 20 t) 20 t)) t (!decide (stg = 0)) writing
        else (restartsS (refS σ2 t (σ2 20 t)) t (refS σ2 t (σ2 20 t) 20 t), -12))
    else (σ0, -13)
  else (sset σ 31 0 1, 0)
noncomputable def abortO (σ : St) (t : Int32) : St × Int32 :=
  if transB σ t = true then (if σ 23 t = 0 then (sset (sset σ 31 0 0) 23 t 3, 0) else (sset σ 31 0 0, -13)) else (sset σ 31 0 1, 0)
noncomputable def recoverO (σ : St) (t : Int32) : St × Int32 :=
  if transB σ t = true then (meetsS1 (sset σ 31 0 0) t, meetsS1 (sset σ 31 0 0) t 23 t) else (sset σ 31 0 1, 0)
noncomputable def beatO (σ : St) (t : Int32) : St × Int32 :=
  if transB σ t = true then (if σ 23 t = 0 then (sset (sset σ 31 0 0) 22 t (σ 0 0), 0) else (sset σ 31 0 0, -13)) else (sset σ 31 0 1, 0)
/-! questions -/
noncomputable def toldF (σ : St) (t w : Int32) : Int32 :=
  if w = 0 then σ 23 t else if w = 1 then σ 19 t else if w = 2 then σ 20 t else if w = 3 then waitsF σ t else if w = 4 then countsF σ 28 t else if w = 5 then countsF σ 29 t else b2i (vanB σ t)
noncomputable def toldO (σ : St) (t w : Int32) : St × Int32 :=
  if inB t 0 (σ 16 0 - 1) = true then (if inB w 0 6 = true then (sset σ 31 0 0, toldF σ t w) else (sset σ 31 0 2, 0)) else (sset σ 31 0 1, 0)
noncomputable def nvStep (σ : St) (key : Int32) (k : Nat) (n : Int32) : Int32 := if σ 13 (nI k) = key then n + 1 else n
noncomputable def nVersF (σ : St) (key : Int32) : Int32 := iter (nvStep σ key) (nat (σ 12 0)) 0
noncomputable def keyF (σ : St) (k w : Int32) : Int32 :=
  if w = 0 then nVersF σ k else if w = 1 then σ 7 k else if w = 2 then σ 10 k else if w = 3 then σ 11 k else if w = 4 then rangeOfF σ k else if w = 5 then nodeOfF σ k else b2i (!decide (σ 7 k = -1) && !decide (σ 8 k = 0))
noncomputable def keyO (σ : St) (k w : Int32) : St × Int32 :=
  if inB k 0 31 = true then (if inB w 0 6 = true then (sset σ 31 0 0, keyF σ k w) else (sset σ 31 0 2, 0)) else (sset σ 31 0 1, 0)
noncomputable def asOfF (σ : St) (k st : Int32) : Int32 := if ¬ σ 7 k = -1 ∧ σ 23 (σ 7 k) = 1 ∧ ¬ st < σ 20 (σ 7 k) then -11 else valueAtF σ k st
noncomputable def asOfO (σ : St) (k st : Int32) : St × Int32 :=
  if inB k 0 31 = true then (if inB st 0 (closedF σ) = true then (sset σ 31 0 0, asOfF σ k st) else (sset σ 31 0 2, 0)) else (sset σ 31 0 1, 0)
noncomputable def rsvStep (σ : St) (k : Nat) (s : Int32) : Int32 := if σ 23 (nI k) = 1 ∧ ¬ s ≤ σ 20 (nI k) - 1 then σ 20 (nI k) - 1 else s
noncomputable def resolvedF (σ : St) : Int32 := iter (rsvStep σ) (nat (σ 16 0)) (closedF σ)
noncomputable def feedStep (σ : St) (st last : Int32) (k : Nat) (b : Int32) : Int32 :=
  if ¬ st < σ 14 (nI k) ∧ ¬ 32 * σ 14 (nI k) + σ 13 (nI k) ≤ last ∧ (b = -1 ∨ ¬ b ≤ 32 * σ 14 (nI k) + σ 13 (nI k)) then 32 * σ 14 (nI k) + σ 13 (nI k) else b
noncomputable def feedNext (σ : St) (st last : Int32) : Int32 := iter (feedStep σ st last) (nat (σ 12 0)) (-1)
/-- n more turns of feed -/
noncomputable def feedGo (σ : St) (st : Int32) : Nat → Int32 → Int32 := oRec (fun last => last) (fun _ go last => if feedNext σ st last = -1 then -1 else go (feedNext σ st last))
theorem feedGo_0 {σ : St} {st last : Int32} : feedGo σ st 0 last = last := by unfold feedGo; rw [oRec_0]
theorem feedGo_s {σ : St} {st last : Int32} {n : Nat} : feedGo σ st (n + 1) last = if feedNext σ st last = -1 then -1 else feedGo σ st n (feedNext σ st last) := by unfold feedGo; rw [oRec_s]
noncomputable def feedO (σ : St) (p : Int32) : St × Int32 := if 0 ≤ p then (sset σ 31 0 0, feedGo σ (resolvedF σ) (nat p + 1) (-1)) else (sset σ 31 0 1, 0)
noncomputable def aheadB (σ : St) (a b : Int32) : Bool := decide (σ 20 a < σ 20 b) || (decide (σ 20 a = σ 20 b) && !decide (σ 25 b ≤ σ 25 a))
noncomputable def nextStep (σ : St) (last : Int32) (k : Nat) (b : Int32) : Int32 :=
  if σ 23 (nI k) = 2 ∧ (last = -1 ∨ aheadB σ last (nI k) = true) ∧ (b = -1 ∨ aheadB σ (nI k) b = true) then nI k else b
noncomputable def nextF (σ : St) (last : Int32) : Int32 := iter (nextStep σ last) (nat (σ 16 0)) (-1)
noncomputable def orderGo (σ : St) : Nat → Int32 → Int32 := oRec (fun a => a) (fun _ go a => if a = -1 then -1 else go (nextF σ a))
theorem orderGo_0 {σ : St} {a : Int32} : orderGo σ 0 a = a := by unfold orderGo; rw [oRec_0]
theorem orderGo_s {σ : St} {n : Nat} {a : Int32} : orderGo σ (n + 1) a = if a = -1 then -1 else orderGo σ n (nextF σ a) := by unfold orderGo; rw [oRec_s]
noncomputable def orderO (σ : St) (p : Int32) : St × Int32 := if 0 ≤ p then (sset σ 31 0 0, orderGo σ (nat p) (nextF σ (-1))) else (sset σ 31 0 1, 0)
/-- judged: what stands in once, and the count -/
noncomputable def jdRead (t : Int32) (σ : St) (k : Nat) (n : Int32) : Int32 := if σ 28 (32 * t + nI k) = -1 ∨ σ 28 (32 * t + nI k) = σ 30 (nI k) then n else n + 1
noncomputable def jdWrite (t : Int32) (k : Nat) (σ : St) : St := sset σ 30 (nI k) (if σ 29 (32 * t + nI k) = -1 then σ 30 (nI k) else σ 29 (32 * t + nI k))
noncomputable def jdGo : Nat → Int32 → St × Int32 → St × Int32 := oRec (fun _ p => p) (fun _ go t p => if t = -1 then p else go (nextF p.1 t) (iter (jdWrite t) 32 p.1, iter (jdRead t p.1) 32 p.2))
theorem jdGo_0 {t : Int32} {p : St × Int32} : jdGo 0 t p = p := by unfold jdGo; rw [oRec_0]
theorem jdGo_s {n : Nat} {t : Int32} {p : St × Int32} : jdGo (n + 1) t p = if t = -1 then p else jdGo n (nextF p.1 t) (iter (jdWrite t) 32 p.1, iter (jdRead t p.1) 32 p.2) := by unfold jdGo; rw [oRec_s]
noncomputable def jdInit (k : Nat) (σ : St) : St := sset σ 30 (nI k) 1000
noncomputable def judgedO (σ : St) : St × Int32 := jdGo 41 (nextF σ (-1)) (iter jdInit 32 (sset σ 31 0 0), 0)
