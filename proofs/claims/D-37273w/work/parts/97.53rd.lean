-- C
set_option maxRecDepth 100000
/-! what a reading answers; calls of readings; the JDK's methods with states as names -/
def RdY {α : Type} (n c0 : Nat) (s l : List Int) (S : BS) (W : Nat → Prop) (R : PR α) (K : α → Option GV → BS → Prop) (r : GO) (S' : BS) : Prop := match R with
  | .inl f => ∃ S1, Fr S S1 W (600 * l.length + 20000 + c0) ∧ Thr9 5 42 ((s.length : Int) - f.length) S1 r S'
  | .inr (l1, v) => ∃ w, r = .inl w ∧ l1.length ≤ l.length ∧ Fr S S' W (600 * (l.length - l1.length) + c0) ∧ RdAt S' n s l1 ∧ K v w S'
theorem vOk_o {S : BS} {m : Nat} {o : Obj} (h : Ob S m o) (ho : okT o.1 = true) : vOk S.1 (some m) := fun k z => by
  cases z
  rw [show S.1 m = o from h]
  exact Or.inr ho
section RY
variable {d i a n c0 c q m y cap : Nat} {b : Int} {M : GMeth} {ls : GL} {st : List GV} {S S' S1 : BS} {Q : GO → BS → Prop} {s l l1 f : List Int} {W W' F : Nat → Prop} {α : Type} {R : PR α} {K : α → Option GV → BS → Prop} {v : α} {w : Option GV} {r : GO} {xs : List (Option Nat)}
theorem RdY.fl (e : R = .inl f) (hF : Fr S S1 W c) (hc : c ≤ 600 * l.length + 20000 + c0) (hT : Thr9 5 42 ((s.length : Int) - f.length) S1 r S') : RdY n c0 s l S W R K r S' := by
  subst e
  exact ⟨S1, hF.w (fun _ _ z => z) hc, hT⟩
theorem RdY.go (e : R = .inr (l1, v)) (hl : l1.length ≤ l.length) (hF : Fr S S' W c) (hc : c ≤ 600 * (l.length - l1.length) + c0) (hA : RdAt S' n s l1) (hK : K v w S') : RdY n c0 s l S W R K (.inl w) S' := by
  subst e
  exact ⟨w, rfl, hl, hF.w (fun _ _ z => z) hc, hA, hK⟩
theorem RdY.ret (h : RdY n c0 s l S W R K (.inl w) S') : ∃ l1 v, R = .inr (l1, v) ∧ l1.length ≤ l.length ∧ Fr S S' W (600 * (l.length - l1.length) + c0) ∧ RdAt S' n s l1 ∧ K v w S' := by
  rcases R with f | ⟨l1, v⟩
  · obtain ⟨S1, h1, q, h2, h3⟩ := h
    cases h2
  · obtain ⟨w', h1, h2, h3, h4, h5⟩ := h
    cases h1
    exact ⟨l1, v, rfl, h2, h3, h4, h5⟩
theorem RdY.thr {z : Nat × Option Nat} (h : RdY n c0 s l S W R K (.inr z) S') : ∃ f S1, R = .inl f ∧ Fr S S1 W (600 * l.length + 20000 + c0) ∧ Thr9 5 42 ((s.length : Int) - f.length) S1 (.inr z) S' := by
  rcases R with f | ⟨l1, v⟩
  · obtain ⟨S1, h1, h2⟩ := h
    exact ⟨f, S1, rfl, h1, h2⟩
  · obtain ⟨w', h1, h2⟩ := h
    cases h1
/-- what is known behind a reading that went on -/
def RyG (n c0 : Nat) (s l : List Int) (S : BS) (W : Nat → Prop) (R : PR α) (K : α → Option GV → BS → Prop) (l1 : List Int) (v : α) (w : Option GV) (S' : BS) : Prop := R = .inr (l1, v) ∧ l1.length ≤ l.length ∧ Fr S S' W (600 * (l.length - l1.length) + c0) ∧ RdAt S' n s l1 ∧ K v w S'
/-- and behind one that found a fault -/
def RyF (c0 : Nat) (s l : List Int) (S : BS) (W : Nat → Prop) (R : PR α) (f : List Int) (S1 : BS) (r : GO) (S' : BS) : Prop := R = .inl f ∧ Fr S S1 W (600 * l.length + 20000 + c0) ∧ Thr9 5 42 ((s.length : Int) - f.length) S1 r S'
theorem CW.r1 {kind mid tag : Nat} {v0 : GV} (hC : M.2.2.1[i]? = some (60, a, b)) (hs : gsites[a]? = some (kind, mid, tag, 1)) (htag : tag = 0 ∨ ∃ n, (some v0 : Option GV) = some (aR n) ∧ ocls (S.1 n) = tag ∧ ((S.1 n).1 == 0) = false) (hin : (kind ≠ 4 ∧ kind ≠ 11) ∨ ∃ n, (some v0 : Option GV) = some (aR n) ∧ 1000 ≤ n) (hr : Nat.ble ((st.map gcat).sum) 8 = true) (hh : ghnd M.2.2.2 i = none) (h : BM d mid [v0] S (RdY n c0 s l S W R K)) (k : ∀ l1 v w S', RyG n c0 s l S W R K l1 v w S' → BW d M (i + 1) ls (w.toList ++ st) S' Q) (kx : ∀ f S1 r S', RyF c0 s l S W R f S1 r S' → Q r S') : BW d M i ls (v0 :: st) S Q :=
  CW.x1 hC hs htag hin hr hh h (fun w S' z => by obtain ⟨l1, v, h1⟩ := z.ret; exact k l1 v w S' h1) (fun E q S' z => by obtain ⟨f, S1, h1⟩ := z.thr; exact kx f S1 _ S' h1)
theorem CW.r2 {kind mid tag : Nat} {v0 v1 : GV} (hC : M.2.2.1[i]? = some (60, a, b)) (hs : gsites[a]? = some (kind, mid, tag, 2)) (htag : tag = 0 ∨ ∃ n, (some v0 : Option GV) = some (aR n) ∧ ocls (S.1 n) = tag ∧ ((S.1 n).1 == 0) = false) (hin : (kind ≠ 4 ∧ kind ≠ 11) ∨ ∃ n, (some v0 : Option GV) = some (aR n) ∧ 1000 ≤ n) (hr : Nat.ble ((st.map gcat).sum) 8 = true) (hh : ghnd M.2.2.2 i = none) (h : BM d mid [v0, v1] S (RdY n c0 s l S W R K)) (k : ∀ l1 v w S', RyG n c0 s l S W R K l1 v w S' → BW d M (i + 1) ls (w.toList ++ st) S' Q) (kx : ∀ f S1 r S', RyF c0 s l S W R f S1 r S' → Q r S') : BW d M i ls (v1 :: v0 :: st) S Q :=
  CW.x2 hC hs htag hin hr hh h (fun w S' z => by obtain ⟨l1, v, h1⟩ := z.ret; exact k l1 v w S' h1) (fun E q S' z => by obtain ⟨f, S1, h1⟩ := z.thr; exact kx f S1 _ S' h1)
theorem CW.r3 {kind mid tag : Nat} {v0 v1 v2 : GV} (hC : M.2.2.1[i]? = some (60, a, b)) (hs : gsites[a]? = some (kind, mid, tag, 3)) (htag : tag = 0 ∨ ∃ n, (some v0 : Option GV) = some (aR n) ∧ ocls (S.1 n) = tag ∧ ((S.1 n).1 == 0) = false) (hin : (kind ≠ 4 ∧ kind ≠ 11) ∨ ∃ n, (some v0 : Option GV) = some (aR n) ∧ 1000 ≤ n) (hr : Nat.ble ((st.map gcat).sum) 8 = true) (hh : ghnd M.2.2.2 i = none) (h : BM d mid [v0, v1, v2] S (RdY n c0 s l S W R K)) (k : ∀ l1 v w S', RyG n c0 s l S W R K l1 v w S' → BW d M (i + 1) ls (w.toList ++ st) S' Q) (kx : ∀ f S1 r S', RyF c0 s l S W R f S1 r S' → Q r S') : BW d M i ls (v2 :: v1 :: v0 :: st) S Q :=
  CW.x3 hC hs htag hin hr hh h (fun w S' z => by obtain ⟨l1, v, h1⟩ := z.ret; exact k l1 v w S' h1) (fun E q S' z => by obtain ⟨f, S1, h1⟩ := z.thr; exact kx f S1 _ S' h1)
theorem CW.r4 {kind mid tag : Nat} {v0 v1 v2 v3 : GV} (hC : M.2.2.1[i]? = some (60, a, b)) (hs : gsites[a]? = some (kind, mid, tag, 4)) (htag : tag = 0 ∨ ∃ n, (some v0 : Option GV) = some (aR n) ∧ ocls (S.1 n) = tag ∧ ((S.1 n).1 == 0) = false) (hin : (kind ≠ 4 ∧ kind ≠ 11) ∨ ∃ n, (some v0 : Option GV) = some (aR n) ∧ 1000 ≤ n) (hr : Nat.ble ((st.map gcat).sum) 8 = true) (hh : ghnd M.2.2.2 i = none) (h : BM d mid [v0, v1, v2, v3] S (RdY n c0 s l S W R K)) (k : ∀ l1 v w S', RyG n c0 s l S W R K l1 v w S' → BW d M (i + 1) ls (w.toList ++ st) S' Q) (kx : ∀ f S1 r S', RyF c0 s l S W R f S1 r S' → Q r S') : BW d M i ls (v3 :: v2 :: v1 :: v0 :: st) S Q :=
  CW.x4 hC hs htag hin hr hh h (fun w S' z => by obtain ⟨l1, v, h1⟩ := z.ret; exact k l1 v w S' h1) (fun E q S' z => by obtain ⟨f, S1, h1⟩ := z.thr; exact kx f S1 _ S' h1)
/-! the reader's small methods again -/
theorem lk_hd {x : Int} (hx : 0 < x) : lk l = x ↔ hd l = x := by
  cases l with
  | nil => exact ⟨fun z => by have z : (-1 : Int) = x := z; omega, fun z => by have z : (0 : Int) = x := z; omega⟩
  | cons _ _ => exact Iff.rfl
theorem Pu.wi {W : Nat → Prop} (hP : Pu S S' a n) (hW : W n) : Fr S S' W 0 := hP.fr.w (fun m _ z => by rw [z]; exact hW) (Nat.le_refl _)
theorem pNum_len {v : Int} (h : pNum l = .inr (l1, v)) : l1.length < l.length := by
  unfold pNum at h
  split at h
  · rename_i h1
    have : 0 < l.length := List.length_pos_iff.mpr h1.2
    split at h
    · cases h
      rw [List.length_tail, List.length_tail]; omega
    · cases h
      rw [List.length_tail]; omega
  · cases h
theorem C_number (h : RdAt S n s l) : BM (d + 7) gk_X3_number [aR n] S (RdY n 0 s l S (fun m => m = n) (pNum l) (fun v w S' => w = vI v ∧ Pu S S' 75 n)) := by
  obtain ⟨H, fi, fr, t⟩ := S
  intro g hg
  refine GM.mono (B_number (d := d) h g hg) (Nat.le_refl _) (fun r g' _ hr => ?_)
  obtain ⟨S', h1, h2⟩ := hr
  refine ⟨S', h1, ?_⟩
  cases e : pNum l with
  | inl f =>
    rw [e] at h2
    obtain ⟨S1, h3, h4⟩ := h2
    exact RdY.fl rfl h3 (Nat.zero_le _) h4
  | inr z =>
    obtain ⟨l1, v⟩ := z
    rw [e] at h2
    obtain ⟨w, h3, h4, h5, h6, k, h7⟩ := h2
    subst h3
    have hl := pNum_len e
    exact RdY.go rfl (Nat.le_of_lt hl) h4 (Nat.zero_le _) h5 ⟨h6, by rw [h7]; exact rdGo_pu⟩
theorem C_letter {x y : Int} (h : RdAt S n s l) (hx : 0 ≤ x ∧ x < 128) (hy : 0 ≤ y ∧ y < 128) : BM (d + 6) gk_X3_letter [aR n, aI x, aI y] S (RdY n 0 s l S (fun m => m = n) (if x ≤ hd l ∧ hd l ≤ y ∧ l ≠ [] then .inr (l.tail, hd l - x) else .inl l) (fun v w S' => w = vI v ∧ Pu S S' 75 n)) := by
  obtain ⟨H, fi, fr, t⟩ := S
  intro g hg
  refine GM.mono (B_letter (d := d) h hx hy g hg) (Nat.le_refl _) (fun r g' _ hr => ?_)
  obtain ⟨S', h1, h2⟩ := hr
  refine ⟨S', h1, ?_⟩
  by_cases e : x ≤ hd l ∧ hd l ≤ y ∧ l ≠ []
  · rw [if_pos e] at h2
    obtain ⟨w, h3, h4, h5, h6, k, h7⟩ := h2
    subst h3
    exact RdY.go (if_pos e) (by rw [List.length_tail]; omega) h4 (Nat.zero_le _) h5 ⟨h6, by rw [h7]; exact rdGo_pu⟩
  · rw [if_neg e] at h2
    obtain ⟨S1, h3, h4⟩ := h2
    exact RdY.fl (if_neg e) h3 (Nat.zero_le _) h4
theorem C_told {x : Int} {k : Nat} (h : RdAt S n s (x :: l)) (hc : S.2.1 77 n = k ∧ k ≤ 2) : BM (d + 6) gk_X3_told [aR n] S (RdY n 0 s (x :: l) S (fun m => m = n) (if 0 < k then (if 49 ≤ hd l ∧ hd l ≤ 48 + k then .inr (l.tail, hd l - 48) else .inl l) else .inl (x :: l)) (fun v w S' => w = vI v ∧ Pu S S' 75 n)) := by
  obtain ⟨H, fi, fr, t⟩ := S
  intro g hg
  refine GM.mono (B_told (d := d) h hc g hg) (Nat.le_refl _) (fun r g' _ hr => ?_)
  obtain ⟨S', h1, h2⟩ := hr
  refine ⟨S', h1, ?_⟩
  by_cases e : 0 < k
  · rw [if_pos e] at h2
    by_cases e2 : 49 ≤ hd l ∧ hd l ≤ 48 + (k : Int)
    · rw [if_pos e2] at h2
      obtain ⟨w, h3, h4, h5, h6, k, h7⟩ := h2
      subst h3
      exact RdY.go ((if_pos e).trans (if_pos e2)) (by rw [List.length_tail, List.length_cons]; omega) h4 (Nat.zero_le _) h5 ⟨h6, by rw [h7]; exact rdGo_pu⟩
    · rw [if_neg e2] at h2
      obtain ⟨S1, h3, h4⟩ := h2
      exact RdY.fl ((if_pos e).trans (if_neg e2)) h3 (Nat.zero_le _) h4
  · rw [if_neg e] at h2
    obtain ⟨S1, h3, h4⟩ := h2
    exact RdY.fl (if_neg e) h3 (Nat.zero_le _) h4
theorem BMr.mono {mid : Nat} {as : List GV} {Q Q' : Option GV → BS → Prop} (h : BMr d mid as S Q) (hQ : ∀ r S', Q r S' → Q' r S') : BMr d mid as S Q' := fun g hg => GM.mono (h g hg) (Nat.le_refl _) (fun _ _ _ ⟨S', h1, v, h2, h3⟩ => ⟨S', h1, v, h2, hQ _ _ h3⟩)
theorem BM.mono {mid : Nat} {as : List GV} {Q Q' : GO → BS → Prop} (h : BM d mid as S Q) (hQ : ∀ r S', Q r S' → Q' r S') : BM d mid as S Q' := fun g hg => GM.mono (h g hg) (Nat.le_refl _) (fun _ _ _ ⟨S', h1, h3⟩ => ⟨S', h1, hQ _ _ h3⟩)
theorem C_mustC {x : Int} (h : RdAt S n s l) (hc : 0 < x ∧ x < 128) : BM (d + 6) gk_X3_must_2 [aR n, aI x] S (RdY n 0 s l S (fun m => m = n) (if hd l = x then .inr (l.tail, ()) else .inl l) (fun _ w S' => w = none ∧ Pu S S' 75 n)) := by
  refine BM.mono (B_mustC (d := d) h (by omega)) (fun r S' hr => ?_)
  by_cases e : hd l = x
  · rw [if_pos ((lk_hd hc.1).mpr e)] at hr
    obtain ⟨h1, h2⟩ := hr
    cases l with
    | nil => have e : (0 : Int) = x := e; omega
    | cons x0 l0 =>
      subst h1 h2
      exact RdY.go (if_pos e) (by simp) (h.gofr 1) (Nat.zero_le _) h.go ⟨rfl, rdGo_pu⟩
  · rw [if_neg (fun z => e ((lk_hd hc.1).mp z))] at hr
    exact RdY.fl (if_neg e) (Fr.rf (S := S)) (Nat.zero_le _) hr
theorem C_next {x : Int} (h : RdAt S n s (x :: l)) : BMr (d + 5) gk_X3_next [aR n] S (fun r S' => r = vI x ∧ Pu S S' 75 n ∧ RdAt S' n s l) := BMr.mono (B_next (d := d) h) (fun r S' ⟨h1, h2⟩ => ⟨h1, by rw [h2]; exact rdGo_pu, by rw [h2]; exact h.go⟩)
theorem C_passes {x : Int} (h : RdAt S n s l) (hc : 0 < x ∧ x < 128) : BMr (d + 6) gk_X3_passes [aR n, aI x] S (fun r S' => ((hd l = x ∧ r = vI 1 ∧ RdAt S' n s l.tail) ∨ (hd l ≠ x ∧ r = vI 0 ∧ RdAt S' n s l)) ∧ Pu S S' 75 n) := by
  refine BMr.mono (B_passes (d := d) h (by omega)) (fun r S' ⟨h1, h2⟩ => ?_)
  by_cases e : hd l = x
  · rw [if_pos ((lk_hd hc.1).mpr e)] at h1 h2
    subst h2
    refine ⟨Or.inl ⟨e, h1, ?_⟩, rdGo_pu⟩
    cases l with
    | nil => have e : (0 : Int) = x := e; omega
    | cons x0 l0 => exact h.go
  · rw [if_neg (fun z => e ((lk_hd hc.1).mp z))] at h1 h2
    subst h2
    exact ⟨Or.inr ⟨e, h1, h.go0⟩, rdGo_pu⟩
/-! the JDK -/
theorem C_alAdd (hn : Ob S n (oAl xs cap)) {v : Option Nat} (hv : vOk S.1 v) (hl : xs.length < 40000) (ht : S.2.2.2 < 1000000000) : BMr (d + 6) gk_J6_add [aR n, aQ v] S (fun r S' => r = vI 1 ∧ ∃ cap', Ob S' n (oAl (xs ++ [v]) cap') ∧ Fr1 S S' n (1 + 6 * (cap' - cap)) ∧ cap ≤ cap' ∧ (cap' = cap ∨ cap' ≤ 2 * (xs.length + 1) + 10)) := by
  obtain ⟨H, fi, fr, t⟩ := S
  refine BMr.mono (B_alAdd (d := d) hn hv hl ht) (fun r S' ⟨h1, cap', h2, h3, h4⟩ => ?_)
  obtain ⟨a1, a2⟩ := Fr.upE (S := (H, fi, fr, t)) (b := n) (k := 1 + 6 * (cap' - cap)) (o := oAl (xs ++ [v]) cap') (oNe rfl) (h2.trans (by rw [Nat.add_assoc]))
  exact ⟨h1, cap', a1, a2, h3, by simpa using h4⟩
theorem C_alNew (hn : Ob S n (oRaw 16)) : BMr (d + 3) gk_J6_init [aR n] S (fun r S' => r = none ∧ Ob S' n (oAl [] 0) ∧ Fr1 S S' n 0) := by
  obtain ⟨H, fi, fr, t⟩ := S
  exact BMr.mono (B_alNew (d := d) hn) (fun r S' ⟨h1, h2⟩ => ⟨h1, Fr.upE (S := (H, fi, fr, t)) (k := 0) (oNe rfl) h2⟩)
theorem C_sbNew (hn : Ob S n (oRaw 14)) : BMr (d + 2) gk_J9_init [aR n] S (fun r S' => r = none ∧ Ob S' n (oSb [] 16) ∧ Fr1 S S' n 28) := by
  obtain ⟨H, fi, fr, t⟩ := S
  exact BMr.mono (B_sbNew (d := d) hn) (fun r S' ⟨h1, h2⟩ => ⟨h1, Fr.upE (S := (H, fi, fr, t)) (oNe rfl) h2⟩)
theorem Sb9.of {H : Nat → Obj} {fi : Nat → Nat → Int} {fr : Nat → Nat → Option Nat} {t : Nat} {x : List Int} (h : BSb9 H fi fr t n cap x S') : ∃ cap', Ob S' n (oSb x cap') ∧ Fr1 (H, fi, fr, t) S' n (3 * (cap' - cap)) ∧ cap ≤ cap' ∧ (cap' = cap ∨ cap' ≤ 2 * x.length) := by
  obtain ⟨cap', h1, h2, h3⟩ := h
  obtain ⟨a1, a2⟩ := Fr.upE (S := (H, fi, fr, t)) (b := n) (o := oSb x cap') (oNe rfl) h1
  exact ⟨cap', a1, a2, h2, h3⟩
theorem C_sbAppC {x : List Int} (hn : Ob S n (oSb x cap)) {k : Int} (hk : 0 ≤ k ∧ k < 128) (hl : x.length < 29000) : BMr (d + 5) gk_J9_append [aR n, aI k] S (fun r S' => r = vR (some n) ∧ ∃ cap', Ob S' n (oSb (x ++ [k]) cap') ∧ Fr1 S S' n (3 * (cap' - cap)) ∧ cap ≤ cap' ∧ (cap' = cap ∨ cap' ≤ 2 * (x ++ [k]).length)) := by
  obtain ⟨H, fi, fr, t⟩ := S
  exact BMr.mono (B_sbAppC (d := d) hn hk hl) (fun r S' ⟨h1, h2⟩ => ⟨h1, Sb9.of h2⟩)
theorem Sn.of {H : Nat → Obj} {fi : Nat → Nat → Int} {fr : Nat → Nat → Option Nat} {t : Nat} {x : List Int} {r : Option GV} (h : BSn H fi fr t x c r S') : ∃ y, r = vR (some y) ∧ 1000 ≤ y ∧ H y = oNil ∧ Ob S' y (oStr x) ∧ Fr0 (H, fi, fr, t) S' c := by
  obtain ⟨y, h1, h2, h3, h4⟩ := h
  obtain ⟨a1, a2⟩ := Fr.upE (S := (H, fi, fr, t)) (b := y) (o := oStr x) (oNe rfl) h4
  exact ⟨y, h1, h3, h2, a1, a2.w (fun m hm z => hm (by rw [z]; exact h2)) (Nat.le_refl _)⟩
theorem C_sbStr {x : List Int} (hn : Ob S n (oSb x cap)) : BMr (d + 6) gk_J9_toString [aR n] S (fun r S' => ∃ y, r = vR (some y) ∧ 1000 ≤ y ∧ S.1 y = oNil ∧ Ob S' y (oStr x) ∧ Fr0 S S' (28 + x.length)) := by
  obtain ⟨H, fi, fr, t⟩ := S
  exact BMr.mono (B_sbStr (d := d) hn) (fun r S' h => Sn.of h)
theorem C_valC {k : Int} (hk : 0 ≤ k ∧ k < 128) : BMr (d + 2) gk_J10_valueOf [aI k] S (fun r S' => ∃ y, r = vR (some y) ∧ 1000 ≤ y ∧ S.1 y = oNil ∧ Ob S' y (oStr [k]) ∧ Fr0 S S' 29) := by
  obtain ⟨H, fi, fr, t⟩ := S
  exact BMr.mono (B_valC (d := d) hk) (fun r S' h => Sn.of h)
end RY
