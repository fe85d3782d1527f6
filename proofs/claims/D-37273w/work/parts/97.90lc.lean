-- C
set_option maxRecDepth 100000
/-! A CURSOR in the text: what stands ahead of the iterator, what behind it -/
def LC (S0 S : BS) (K : Nat → Nat) (la : Int → Nat) (p : Nat) (G : BG) (B it lr : Nat) (dn rs : List SLine) (V : Nat → Prop) : Prop := LO S K la (dn ++ rs, p, G) B ∧ (∃ mc, Ob S (K 3) (oLl (lsOf la (idsOfL (dn ++ rs))) mc) ∧ Ob S it (oIt (K 3) dn.length mc lr)) ∧ KoM K it ∧ S0.1 it = oNil ∧ XF K V S0 S ∧ (dn ++ rs).length ≤ 10000
section LC
variable {d n m q i a y cap p B c k f e l b it lr : Nat} {S S' S0 S1 S2 : BS} {K : Nat → Nat} {la la' la2 : Int → Nat} {ids P R : List Int} {G : BG} {A : St} {V W : Nat → Prop} {s z : List Int} {v w nn : Int} {t dn rs : List SLine} {mk mk' : Nat → Option Int} {xs ys : List (Option Nat)} {rows : List (List Int)} {o : Obj} {x : SLine} {r : Option Nat}
theorem LC.lb (h : LC S0 S K la p G B it lr dn rs V) : LB S K la (idsOfL (dn ++ rs)) p G B := h.1.1
theorem LC.rws (h : LC S0 S K la p G B it lr dn rs V) : RowsI S la G.2.2.2.2.1 (dn ++ rs) := h.1.2
theorem LC.ob (h : LC S0 S K la p G B it lr dn rs V) : ∃ o, Ob S it o ∧ (o.1 == 0) = false ∧ o.1 = 5 := by
  obtain ⟨mc, h1, h2⟩ := h.2.1
  exact ⟨_, h2, rfl, rfl⟩
theorem LC.tagI (h : LC S0 S K la p G B it lr dn rs V) : ∃ n, (some (aR it) : Option GV) = some (aR n) ∧ ocls (S.1 n) = 19 ∧ ((S.1 n).1 == 0) = false := by
  obtain ⟨mc, h1, h2⟩ := h.2.1
  exact ⟨it, rfl, by rw [show S.1 it = _ from h2]; rfl, by rw [show S.1 it = _ from h2]; rfl⟩
theorem L_cur (hL : LO S K la (t, p, G) B) (hk : k ≤ t.length) (hl : t.length ≤ 10000) (hB : B + 17 ≤ 20000000) (hv : v = k) (hT : Ob S (K 3) o) : BMr (d + 3) gk_J3_listIterator [aR (K 3), aI v] S (fun r S' => ∃ it, r = vR (some it) ∧ 1000 ≤ it ∧ LC S S' K la p G (B + 17) it 0 (t.take k) (t.drop k) V ∧ Fr0 S S' 17) := by
  obtain ⟨mc, hT⟩ := hL.1.text
  have hl3 : (lsOf la (idsOfL t)).length = t.length := by rw [lsOf_len, ids_len]
  have hT : Ob S (K 3) (oLl (lsOf la (idsOfL t)) mc) := hT
  refine BMr.mono (C_itNew (d := d) hT (by omega) (by omega) hv) (fun r S' ⟨it, h1, h2, h3, h4, h5⟩ => ⟨it, h1, h3, ?_, h5⟩)
  have e : t.take k ++ t.drop k = t := List.take_append_drop k t
  unfold LC
  rw [e]
  refine ⟨hL.fr h5 LoW.no hB, ⟨mc, hT.fr h5 ⟨oNe rfl, Sep.no⟩, ?_⟩, hL.1.ko h2, h2, XF.rf.f0 h5, hl⟩
  rw [List.length_take, Nat.min_eq_left hk]
  exact h4
theorem LC.x6 (h : LC S0 S K la p G B it lr dn rs V) (hx : x ∈ dn ++ rs) : Ob S (la x.1) (oOwn 6) := (h.rws x hx).2.1
theorem L_next (h : LC S0 S K la p G B it lr dn (x :: rs) V) : BMr (d + 2) gk_J35_next [aR it] S (fun r S' => r = vR (some (la x.1)) ∧ LC S0 S' K la p G B it (dn.length + 1) (dn ++ [x]) rs V ∧ Fr1 S S' it 0) := by
  obtain ⟨h1, ⟨mc, h2, h3⟩, h4, h5, h6, h7⟩ := h
  have hlen : (lsOf la (idsOfL (dn ++ x :: rs))).length = (dn ++ x :: rs).length := by rw [lsOf_len, ids_len]
  have hlen2 : (dn ++ x :: rs).length = dn.length + (rs.length + 1) := by rw [List.length_append, List.length_cons]
  have hg : (lsOf la (idsOfL (dn ++ x :: rs))).getD dn.length none = some (la x.1) := by
    rw [idsOfL_app, lsOf_app, List.getD_eq_getElem?_getD, List.getElem?_append_right (by rw [lsOf_len, ids_len]; omega), lsOf_len, ids_len, Nat.sub_self]
    rfl
  refine BMr.mono (C_itNext (d := d) h3 h2 (by omega) (by omega) hg) (fun r S' ⟨e1, e2, e3⟩ => ⟨e1, ?_, e3⟩)
  have e : dn ++ [x] ++ rs = dn ++ x :: rs := by simp
  unfold LC
  rw [e]
  refine ⟨h1.fr e3 (LoW.one h4 h3 (oNe rfl) rfl) (by have := h1.1.tt; omega), ⟨mc, h2.fr e3 ⟨oNe rfl, h2.ne h3 (oNe rfl)⟩, ?_⟩, h4, h5, h6.f1 e3 (fun z => absurd h5 z), h7⟩
  rw [List.length_append]
  exact e2
theorem L_rem (h : LC S0 S K la p G B it (dn.length + 1) (dn ++ [x]) rs V) (hB : B + 1 ≤ 20000000) : BMr (d + 2) gk_J35_remove [aR it] S (fun r S' => r = none ∧ LC S0 S' K la p G (B + 1) it 0 dn rs V ∧ Fr S S' (fun k => k = K 3 ∨ k = it) 1) := by
  obtain ⟨h1, ⟨mc, h2, h3⟩, h4, h5, h6, h7⟩ := h
  have hlen : (lsOf la (idsOfL (dn ++ [x] ++ rs))).length = (dn ++ [x] ++ rs).length := by rw [lsOf_len, ids_len]
  have hdl : (dn ++ [x]).length = dn.length + 1 := by simp
  rw [hdl] at h3
  have ht := h1.1.tt
  have e0 : idsOfL (dn ++ [x] ++ rs) = idsOfL dn ++ x.1 :: idsOfL rs := by rw [idsOfL_app, idsOfL_app]; simp [idsOfL]
  refine BMr.mono (C_itRem (d := d) h3 h2 (by omega) (by omega) (by omega)) (fun r S' ⟨e1, e2, e3, e4⟩ => ⟨e1, ?_, e4⟩)
  rw [Nat.add_sub_cancel] at e2 e3
  rw [e0, delA_ls (by rw [ids_len]), ← idsOfL_app] at e2
  have hlo : LoX K S (fun k => k = K 3 ∨ k = it) 3 := LoX.two LoX.k (LoX.w (LoW.one h4 h3 (oNe rfl) rfl))
  have hw6 : W6 S (fun k => k = K 3 ∨ k = it) := W6.two (W6.one h2 (oNe rfl) rfl) (W6.one h3 (oNe rfl) rfl)
  have hsub : ∀ q ∈ dn ++ rs, q ∈ dn ++ [x] ++ rs := fun q hq => by
    rcases List.mem_append.mp hq with z | z
    · exact List.mem_append_left _ (List.mem_append_left _ z)
    · exact List.mem_append_right _ z
  refine ⟨⟨h1.1.setText e4 hlo e2 (fun y hy => ?_) hB, (h1.2.f6 e4 hw6).sub hsub⟩, ⟨mc + 1, e2, e3⟩, h4, h5, h6.f2 e4 (fun _ => h1.1.wk (by decide)) (fun z => absurd h5 z), by simp at h7 ⊢; omega⟩
  obtain ⟨q, hq, rfl⟩ := List.mem_map.mp hy
  exact (h1.2 q (hsub q hq)).1
/-- a new line comes ahead of the iterator -/
theorem L_add (h : LC S0 S K la p G B it lr dn rs V) (hx : RowI S la G.2.2.2.2.1 x) (hm : m = la x.1) (hB : B + 16 ≤ 20000000) (hl : (dn ++ rs).length < 9000) : BMr (d + 3) gk_J35_add [aR it, aR m] S (fun r S' => r = none ∧ LC S0 S' K la p G (B + 16) it 0 (dn ++ [x]) rs V ∧ Fr S S' (fun k => k = K 3 ∨ k = it) 16) := by
  subst hm
  obtain ⟨h1, ⟨mc, h2, h3⟩, h4, h5, h6, h7⟩ := h
  have hlen : (lsOf la (idsOfL (dn ++ rs))).length = (dn ++ rs).length := by rw [lsOf_len, ids_len]
  have ht := h1.1.tt
  refine BMr.mono (C_itAdd (d := d) (v := some (la x.1)) h3 h2 (by omega) (vOk_o hx.2.1 rfl) (by omega)) (fun r S' ⟨e1, e2, e3, e4⟩ => ⟨e1, ?_, e4⟩)
  have e0 : idsOfL (dn ++ [x] ++ rs) = idsOfL dn ++ x.1 :: idsOfL rs := by rw [idsOfL_app, idsOfL_app]; simp [idsOfL]
  have e5 : insA (lsOf la (idsOfL (dn ++ rs))) dn.length (some (la x.1)) = lsOf la (idsOfL (dn ++ [x] ++ rs)) := by
    rw [e0, idsOfL_app, insA_ls (by rw [ids_len]), lsOf_app]
    rfl
  rw [e5] at e2
  have hlo : LoX K S (fun k => k = K 3 ∨ k = it) 3 := LoX.two LoX.k (LoX.w (LoW.one h4 h3 (oNe rfl) rfl))
  have hw6 : W6 S (fun k => k = K 3 ∨ k = it) := W6.two (W6.one h2 (oNe rfl) rfl) (W6.one h3 (oNe rfl) rfl)
  have hR : RowsI S' la G.2.2.2.2.1 (dn ++ [x] ++ rs) := fun q hq => by
    rcases List.mem_append.mp hq with z | z
    · rcases List.mem_append.mp z with z | z
      · exact (h1.2 q (List.mem_append_left _ z)).f6 e4 hw6
      · rw [List.mem_singleton.mp z]; exact hx.f6 e4 hw6
    · exact (h1.2 q (List.mem_append_right _ z)).f6 e4 hw6
  refine ⟨⟨h1.1.setText e4 hlo e2 (fun y hy => ?_) hB, hR⟩, ⟨mc + 1, e2, by rw [List.length_append]; exact e3⟩, h4, h5, h6.f2 e4 (fun _ => h1.1.wk (by decide)) (fun z => absurd h5 z), by simp at hl ⊢; omega⟩
  obtain ⟨q, hq, rfl⟩ := List.mem_map.mp hy
  exact (hR q hq).1
theorem LC.idx (h : LC S0 S K la p G B it lr dn rs V) : BE (d + 1) gk_J35_nextIndex [aR it] S (vI dn.length) := by
  obtain ⟨h1, ⟨mc, h2, h3⟩, h4, h5, h6, h7⟩ := h
  exact B_itIdx (d := d) h3 h2 (by rw [lsOf_len, ids_len]; omega)
/-- a container other than the text changes, or a field of the object -/
theorem LC.to {p' : Nat} {G' : BG} {B' : Nat} (h : LC S0 S K la p G B it lr dn rs V) (hL : LB S' K la (idsOfL (dn ++ rs)) p' G' B') (hn : G'.2.2.2.2.1 = G.2.2.2.2.1) (hF : Fr1 S S' m c) (hm : Ob S m o) (h6 : o ≠ oOwn 6) (h1 : (o.1 == 1) = false) (h4 : (o.1 == 4) = false) (h5 : (o.1 == 5) = false) (hX : XF K V S S') : LC S0 S' K la p' G' B' it lr dn rs V := by
  obtain ⟨g1, ⟨mc, g2, g3⟩, g4, g5, g6, g7⟩ := h
  have ne4 : ∀ o2 : Obj, (o2.1 == o.1) = false → o2 ≠ o := fun o2 z w => by rw [w] at z; simp at z
  refine ⟨⟨hL, ?_⟩, ⟨mc, g2.fr hF ⟨oNe rfl, g2.ne hm (ne4 _ (by show (4 == o.1) = false; rw [← h4]; exact Bool.eq_iff_iff.mpr ⟨fun z => by rw [beq_iff_eq] at z ⊢; exact z.symm, fun z => by rw [beq_iff_eq] at z ⊢; exact z.symm⟩))⟩, g3.fr hF ⟨oNe rfl, g3.ne hm (ne4 _ (by show (5 == o.1) = false; rw [← h5]; exact Bool.eq_iff_iff.mpr ⟨fun z => by rw [beq_iff_eq] at z ⊢; exact z.symm, fun z => by rw [beq_iff_eq] at z ⊢; exact z.symm⟩))⟩⟩, g4, g5, g6.tr hX, g7⟩
  show RowsI S' la G'.2.2.2.2.1 (dn ++ rs)
  rw [hn]
  exact g1.2.f6 hF (W6.one hm h6 h1)
theorem LC.pres (h : LC S0 S K la p G B it lr dn rs V) (hP : Pu S S' 5 (K 1)) (hv : Fi S' 5 (K 1) v) (hp : v = (q : Int)) : LC S0 S' K la q G B it lr dn rs V := h.to (h.lb.puP hP hv hp) rfl hP.fr h.lb.obx (ownNe rfl) rfl rfl rfl (XF.rf.pu1 hP (by decide))
theorem L_unmarkC (h : LC S0 S K la p G B it lr dn rs V) (hx : x ∈ dn ++ rs) (hB : B + 5 ≤ 20000000) : BMr (d + 6) gk_X1_unmark [aR (K 1), aR (la x.1)] S (fun r S' => r = none ∧ LC S0 S' K la p (setM G (unmk G.2.2.2.1 x.1)) (B + 5) it lr dn rs V ∧ XF K V S S') := by
  obtain ⟨M, hM, _⟩ := h.lb.marks
  exact BMr.mono (L_unmark (d := d) (V := V) h.lb (h.rws x hx).1 hB) (fun r S' ⟨e1, e2, e3, e4⟩ => ⟨e1, h.to e2 rfl e4 hM (oNe rfl) rfl rfl rfl e3, e3⟩)
theorem L_makeC {sx : List Int} (h : LC S0 S K la p G B it lr dn rs V) (hy : Ob S y (oStr sx)) (hyk : okS (some y)) (hn : G.2.2.2.2.1 + 1 < 2000000) (hB : B + 14 ≤ 20000000) : BMr (d + 2) gk_X1_makeLine [aR (K 1), aR y] S (fun r S' => ∃ m, r = vR (some m) ∧ LC S0 S' K (upL la G.2.2.2.2.1 m) p (incN G) (B + 14) it lr dn rs V ∧ RowI S' (upL la G.2.2.2.2.1 m) (G.2.2.2.2.1 + 1) (G.2.2.2.2.1, sx) ∧ m = upL la G.2.2.2.2.1 m G.2.2.2.2.1) := by
  have hx := h.lb.obx
  obtain ⟨h1, ⟨mc, h2, h3⟩, h4, h5, h6, h7⟩ := h
  refine BMr.mono (L_makeLine (d := d) (V := V) h1.1 hy hyk hn hB) (fun r S' ⟨m, e1, e2, e3, e4, e5, e6, e7⟩ => ⟨m, e1, ⟨⟨e4, ?_⟩, ⟨mc, ?_, h3.fr e7 ⟨oNe rfl, h3.ne hx (oNe rfl)⟩⟩, h4, h5, h6.tr e6, h7⟩, e5, (if_pos rfl).symm⟩)
  · exact (h1.2.f6 e7 (W6.one hx (ownNe rfl) rfl)).upl (by show G.2.2.2.2.1 ≤ G.2.2.2.2.1 + 1; omega)
  · have el : lsOf (upL la G.2.2.2.2.1 m) (idsOfL (dn ++ rs)) = lsOf la (idsOfL (dn ++ rs)) := lsOf_up (fun z hz => (h1.1.idR hz).2)
    rw [el]
    exact h2.fr e7 ⟨oNe rfl, h2.ne hx (oNe rfl)⟩
/-- the row of a line is put -/
theorem LC.row {sx : List Int} (h : LC S0 S K la p G B it lr (dn ++ [x]) rs V) (hP : Pu S S' 44 (la x.1)) (hr : Fe S' 44 (la x.1) r) (hs : StrB S r sx) (hnd : x.1 ∉ idsOfL dn ∧ x.1 ∉ idsOfL rs) (hV : V (la x.1)) : LC S0 S' K la p G B it lr (dn ++ [(x.1, sx)]) rs V := by
  obtain ⟨h1, ⟨mc, h2, h3⟩, h4, h5, h6, h7⟩ := h
  have hx6 := (h1.2 x (List.mem_append_left _ (List.mem_append_right _ List.mem_cons_self)))
  have hxk : la x.1 ≠ K 1 := hx6.2.1.ne h1.1.obx (ownNe rfl)
  have ei : idsOfL (dn ++ [(x.1, sx)] ++ rs) = idsOfL (dn ++ [x] ++ rs) := by rw [idsOfL_app, idsOfL_app, idsOfL_app, idsOfL_app]; rfl
  have oth : ∀ q, q ∈ dn ++ [x] ++ rs → q.1 ≠ x.1 → RowI S' la G.2.2.2.2.1 q := fun q hq hn => by
    obtain ⟨a1, a2, r', a3, a4⟩ := h1.2 q hq
    have : la q.1 ≠ la x.1 := fun z => hn (h1.1.lai a1 hx6.1 z)
    exact ⟨a1, a2.pu hP trivial, r', a3.pu hP (Or.inr this), a4.pu hP trivial⟩
  unfold LC
  rw [ei]
  refine ⟨⟨by show LB S' K la (idsOfL (dn ++ [(x.1, sx)] ++ rs)) p G B; rw [ei]; exact h1.1.puL hP hxk (Or.inl (by decide)), fun q hq => ?_⟩, ⟨mc, h2.pu hP trivial, by rw [List.length_append] at h3 ⊢; exact h3.pu hP trivial⟩, h4, h5, h6.puV hP hV, by simp at h7 ⊢; omega⟩
  rcases List.mem_append.mp hq with z | z
  · rcases List.mem_append.mp z with z | z
    · exact oth q (List.mem_append_left _ (List.mem_append_left _ z)) (fun w => hnd.1 (by rw [← w]; exact List.mem_map_of_mem z))
    · rw [List.mem_singleton.mp z]
      exact ⟨hx6.1, hx6.2.1.pu hP trivial, r, hr, hs.pu hP trivial⟩
  · exact oth q (List.mem_append_right _ z) (fun w => hnd.2 (by rw [← w]; exact List.mem_map_of_mem z))
end LC
