set_option maxRecDepth 100000
/-! rules of the twin's walk for calls, and its smallest methods -/
section TWC
variable {d i a : Nat} {b : Int} {C : List TI} {ls : TL} {st : List TV} {σ : TS} {Q : Option Int → TS → Prop} {Q1 : Option Int → TS → Prop} {M : TMeth}
/-- calls by their number of ints: of the object, and static -/
theorem TW.cv0 (hC : C[i]? = some (30, a, b)) (hM : tmt[a]? = some M) (hs : (M.2.2.2.2.1, tnum M) = (false, 1)) (hr : st.length ≤ 8) (h : TM d a [.inr 0] σ Q1) (k : ∀ r σ', Q1 r σ' → TW d C (i + 1) ls ((r.map Sum.inl).toList ++ st) σ' Q) : TW d C i ls (.inr 0 :: st) σ Q := by
  have h1 := (Prod.mk.inj hs).1
  have h2 := (Prod.mk.inj hs).2
  exact TW.call (as := [.inr 0]) hC hM (Or.inl ⟨rfl, h1, rfl⟩) h2.symm rfl hr h k
theorem TW.cv1 {x : Int} (hC : C[i]? = some (30, a, b)) (hM : tmt[a]? = some M) (hs : (M.2.2.2.2.1, tnum M) = (false, 2)) (hr : st.length ≤ 8) (h : TM d a [.inr 0, .inl x] σ Q1) (k : ∀ r σ', Q1 r σ' → TW d C (i + 1) ls ((r.map Sum.inl).toList ++ st) σ' Q) : TW d C i ls (.inl x :: .inr 0 :: st) σ Q := by
  have h1 := (Prod.mk.inj hs).1
  have h2 := (Prod.mk.inj hs).2
  exact TW.call (as := [.inr 0, .inl x]) hC hM (Or.inl ⟨rfl, h1, rfl⟩) h2.symm rfl hr h k
theorem TW.cv2 {x y : Int} (hC : C[i]? = some (30, a, b)) (hM : tmt[a]? = some M) (hs : (M.2.2.2.2.1, tnum M) = (false, 3)) (hr : st.length ≤ 8) (h : TM d a [.inr 0, .inl x, .inl y] σ Q1) (k : ∀ r σ', Q1 r σ' → TW d C (i + 1) ls ((r.map Sum.inl).toList ++ st) σ' Q) : TW d C i ls (.inl y :: .inl x :: .inr 0 :: st) σ Q := by
  have h1 := (Prod.mk.inj hs).1
  have h2 := (Prod.mk.inj hs).2
  exact TW.call (as := [.inr 0, .inl x, .inl y]) hC hM (Or.inl ⟨rfl, h1, rfl⟩) h2.symm rfl hr h k
theorem TW.cv3 {x y z : Int} (hC : C[i]? = some (30, a, b)) (hM : tmt[a]? = some M) (hs : (M.2.2.2.2.1, tnum M) = (false, 4)) (hr : st.length ≤ 8) (h : TM d a [.inr 0, .inl x, .inl y, .inl z] σ Q1) (k : ∀ r σ', Q1 r σ' → TW d C (i + 1) ls ((r.map Sum.inl).toList ++ st) σ' Q) : TW d C i ls (.inl z :: .inl y :: .inl x :: .inr 0 :: st) σ Q := by
  have h1 := (Prod.mk.inj hs).1
  have h2 := (Prod.mk.inj hs).2
  exact TW.call (as := [.inr 0, .inl x, .inl y, .inl z]) hC hM (Or.inl ⟨rfl, h1, rfl⟩) h2.symm rfl hr h k
theorem TW.cv4 {x y z u : Int} (hC : C[i]? = some (30, a, b)) (hM : tmt[a]? = some M) (hs : (M.2.2.2.2.1, tnum M) = (false, 5)) (hr : st.length ≤ 8) (h : TM d a [.inr 0, .inl x, .inl y, .inl z, .inl u] σ Q1) (k : ∀ r σ', Q1 r σ' → TW d C (i + 1) ls ((r.map Sum.inl).toList ++ st) σ' Q) : TW d C i ls (.inl u :: .inl z :: .inl y :: .inl x :: .inr 0 :: st) σ Q := by
  have h1 := (Prod.mk.inj hs).1
  have h2 := (Prod.mk.inj hs).2
  exact TW.call (as := [.inr 0, .inl x, .inl y, .inl z, .inl u]) hC hM (Or.inl ⟨rfl, h1, rfl⟩) h2.symm rfl hr h k
theorem TW.cs1 {x : Int} (hC : C[i]? = some (31, a, b)) (hM : tmt[a]? = some M) (hs : (M.2.2.2.2.1, tnum M) = (true, 1)) (hr : st.length ≤ 8) (h : TM d a [.inl x] σ Q1) (k : ∀ r σ', Q1 r σ' → TW d C (i + 1) ls ((r.map Sum.inl).toList ++ st) σ' Q) : TW d C i ls (.inl x :: st) σ Q := by
  have h1 := (Prod.mk.inj hs).1
  have h2 := (Prod.mk.inj hs).2
  exact TW.call (as := [.inl x]) hC hM (Or.inr ⟨rfl, h1⟩) h2.symm rfl hr h k
theorem TW.cs2 {x y : Int} (hC : C[i]? = some (31, a, b)) (hM : tmt[a]? = some M) (hs : (M.2.2.2.2.1, tnum M) = (true, 2)) (hr : st.length ≤ 8) (h : TM d a [.inl x, .inl y] σ Q1) (k : ∀ r σ', Q1 r σ' → TW d C (i + 1) ls ((r.map Sum.inl).toList ++ st) σ' Q) : TW d C i ls (.inl y :: .inl x :: st) σ Q := by
  have h1 := (Prod.mk.inj hs).1
  have h2 := (Prod.mk.inj hs).2
  exact TW.call (as := [.inl x, .inl y]) hC hM (Or.inr ⟨rfl, h1⟩) h2.symm rfl hr h k
/-- steps that need nothing -/
def tpl (i op a : Nat) (b : Int) (ls : TL) (st : List TV) (σ : TS) : Option (Nat × TL × List TV × TS) :=
  match op, st with
  | 0, st => some (i + 1, ls, .inl b :: st, σ)
  | 1, st => match ls[a]? with
    | some (some (.inl x)) => some (i + 1, ls, .inl x :: st, σ)
    | _ => none
  | 2, st => match ls[a]? with
    | some (some (.inr x)) => some (i + 1, ls, .inr x :: st, σ)
    | _ => none
  | 3, .inl x :: st => if a < ls.length then some (i + 1, ls.set a (some (.inl x)), st, σ) else none
  | 5, .inr 0 :: st => if a < 80 ∧ 2 ≤ tkd a then some (i + 1, ls, .inr (a + 1) :: st, σ) else none
  | 11, .inl y :: .inl x :: st => some (i + 1, ls, .inl (x + y) :: st, σ)
  | 12, .inl y :: .inl x :: st => some (i + 1, ls, .inl (x - y) :: st, σ)
  | 13, .inl y :: .inl x :: st => some (i + 1, ls, .inl (x * y) :: st, σ)
  | 14, .inl x :: st => some (i + 1, ls, .inl (-x) :: st, σ)
  | 17, st => some (a, ls, st, σ)
  | 20, st => match ls[a]? with
    | some (some (.inl x)) => if a < ls.length then some (i + 1, ls.set a (some (.inl (x + b))), st, σ) else none
    | _ => none
  | 21, x :: st => some (i + 1, ls, x :: x :: st, σ)
  | 22, y :: x :: st => some (i + 1, ls, y :: x :: y :: x :: st, σ)
  | 23, _ :: st => some (i + 1, ls, st, σ)
  | 24, st => some (i + 1, ls, .inl b :: st, σ)
  | 25, st => some (i + 1, ls, .inl b :: st, σ)
  | _, _ => none
theorem tpl_ok {i op a : Nat} {b : Int} {ls : TL} {st : List TV} {σ : TS} {q : Nat × TL × List TV × TS} (h : tpl i op a b ls st σ = some q) : op < 30 ∧ tstep i op a b ls st σ = some q := by
  unfold tpl at h
  split at h <;> first | (exact ⟨by decide, h⟩) | (cases h; done)
theorem TW.pl {op i' : Nat} {ls' : TL} {st' : List TV} {σ' : TS} (hC : C[i]? = some (op, a, b)) (h : tpl i op a b ls st σ = some (i', ls', st', σ')) (k : TW d C i' ls' st' σ' Q) : TW d C i ls st σ Q := TW.step hC (tpl_ok h).1 (tpl_ok h).2 k
theorem ts2_ne {σ : TS} {k i a : Nat} {v : Int} (h : a ≠ k) : (ts2 σ k i v).2 a = σ.2 a := by funext j; show (if a = k ∧ j = i then v else σ.2 a j) = _; rw [if_neg (fun z => h z.1)]
theorem ts2_at {σ : TS} {k i j : Nat} {v : Int} : (ts2 σ k i v).2 k j = if j = i then v else σ.2 k j := by
  show (if k = k ∧ j = i then v else σ.2 k j) = _
  by_cases h : j = i
  · rw [if_pos ⟨rfl, h⟩, if_pos h]
  · rw [if_neg (fun z => h z.2), if_neg h]
theorem ts2_1 {σ : TS} {k i : Nat} {v : Int} : (ts2 σ k i v).1 = σ.1 := rfl
theorem ts1_2 {σ : TS} {k : Nat} {v : Int} : (ts1 σ k v).2 = σ.2 := rfl
theorem ts1_eq {σ : TS} {k : Nat} {v : Int} : (ts1 σ k v).1 k = v := if_pos rfl
theorem ts1_ne {σ : TS} {k j : Nat} {v : Int} (h : j ≠ k) : (ts1 σ k v).1 j = σ.1 j := if_neg h
theorem tix {σ : TS} {a i j : Nat} (h : i = j) : σ.2 a i = σ.2 a j := by rw [h]
theorem gix {xs : List Int} {i j : Nat} (h : i = j) : xs.getD i 0 = xs.getD j 0 := by rw [h]
/-- an answer that is told exactly -/
def TE (d mid : Nat) (as : List TV) (σ : TS) (r : Option Int) (τ : TS) : Prop := TM d mid as σ (fun r' σ' => r = r' ∧ τ = σ')
end TWC
section TSmall
variable {d : Nat} {σ : TS}
theorem T_len {row : Int} (h : 0 ≤ row ∧ row < 868) : TE (d + 1) tk_len [.inr 0, .inl row] σ (some (σ.2 6 ((31 * row).toNat))) σ := by
  refine TM.of rfl rfl ?_
  (repeat (first | (refine TW.getf rfl rfl rfl (fun _ => ?_)) | (refine TW.pl rfl rfl ?_)))
  refine TW.iald (n := 26908) rfl rfl rfl (by omega) (fun _ => ?_)
  exact TW.iret rfl ⟨rfl, rfl⟩
theorem T_sign {row k : Int} (h : 0 ≤ row ∧ row < 868) (hk : 0 ≤ k ∧ k < 30) : TE (d + 1) tk_sign [.inr 0, .inl row, .inl k] σ (some (σ.2 6 ((31 * row + 1 + k).toNat))) σ := by
  refine TM.of rfl rfl ?_
  (repeat (first | (refine TW.getf rfl rfl rfl (fun _ => ?_)) | (refine TW.pl rfl rfl ?_)))
  refine TW.iald (n := 26908) rfl rfl rfl (by omega) (fun _ => ?_)
  exact TW.iret rfl ⟨rfl, rfl⟩
def b2i (b : Bool) : Int := if b = true then 1 else 0
def isDig (c : Int) : Bool := decide (48 ≤ c ∧ c ≤ 57)
def isChr (c : Int) : Bool := decide (97 ≤ c ∧ c ≤ 122) || isDig c || decide (c = 32)
theorem T_isDigit {c : Int} (h : inR c) : TE (d + 1) tk_isDigit [.inl c] σ (some (b2i (isDig c))) σ := by
  refine TM.of rfl rfl ?_
  (repeat (first | (refine TW.getf rfl rfl rfl (fun _ => ?_)) | (refine TW.pl rfl rfl ?_)))
  refine TW.ic_lt rfl h (by decide) (fun h1 => ?_) (fun h1 => ?_)
  · (repeat (first | (refine TW.getf rfl rfl rfl (fun _ => ?_)) | (refine TW.pl rfl rfl ?_)))
    exact TW.zret rfl (Or.inl rfl) ⟨by simp [isDig, b2i]; omega, rfl⟩
  · (repeat (first | (refine TW.getf rfl rfl rfl (fun _ => ?_)) | (refine TW.pl rfl rfl ?_)))
    refine TW.ic_gt rfl h (by decide) (fun h2 => ?_) (fun h2 => ?_)
    · (repeat (first | (refine TW.getf rfl rfl rfl (fun _ => ?_)) | (refine TW.pl rfl rfl ?_)))
      exact TW.zret rfl (Or.inl rfl) ⟨by simp [isDig, b2i]; omega, rfl⟩
    · (repeat (first | (refine TW.getf rfl rfl rfl (fun _ => ?_)) | (refine TW.pl rfl rfl ?_)))
      exact TW.zret rfl (Or.inr rfl) ⟨by simp [isDig, b2i]; omega, rfl⟩
end TSmall
