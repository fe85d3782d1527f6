-- C
set_option maxRecDepth 100000
/-! LINEORDERS: a stream as objects. q: the stream; oq: its orders; ar: its lines; pq: what is put; dq: what is due -/
def WSt (q pq dq m : Nat) : Prop := m = q ∨ m = pq ∨ m = dq
def StK (K : Nat → Nat) (F : Nat → Prop) (q ar pq dq : Nat) : Prop := (∀ m, F m → KoM K m) ∧ (KoM K q ∧ KoM K ar ∧ KoM K pq ∧ KoM K dq) ∧ ¬ F q ∧ ¬ F pq ∧ ¬ F dq
def StO (S : BS) (K : Nat → Nat) (la : Int → Nat) (q oq ar pq dq : Nat) (t : List SLine) : Prop := Ob S q (oOwn 12) ∧ Fe S 79 q (some oq) ∧ Fe S 80 q (some ar) ∧ Fe S 81 q (some pq) ∧ Fe S 82 q (some dq) ∧ Fe S 90 q (some (K 1)) ∧ Ob S ar (oRa 106 (lsOf la (idsOfL t)))
def StN (S : BS) (q : Nat) (t re : List SLine) (st tu : Nat) (ov : Bool) : Prop := (Fi S 83 q ((t.length - re.length : Nat) : Int) ∧ Fi S 84 q (tu : Int) ∧ Fi S 88 q (b2i ov) ∧ Fi S 89 q (st : Int)) ∧ re = t.drop (t.length - re.length) ∧ re.length ≤ t.length
def StS (S : BS) (K : Nat → Nat) (la : Int → Nat) (q oq ar pq dq : Nat) (t : List SLine) (Sg : SS) (rs : List SLine) (cap B : Nat) : Prop := StO S K la q oq ar pq dq t ∧ (∃ p, LB S K la (idsOfL t) p Sg.2.1 (B + 6 * cap)) ∧ (∃ mc, Ob S pq (oLl (lsOf la (idsOfL Sg.1.2.2.2.1)) mc)) ∧ (∃ xs, Ob S dq (oAd xs cap) ∧ StrsIs S xs Sg.1.2.2.1) ∧ StN S q t Sg.1.2.2.2.2 Sg.2.2.1 Sg.2.2.2.1 Sg.2.2.2.2.1 ∧ RowsI S la Sg.2.1.2.2.2.2.1 rs
/-- the work at hand -/
def StWk (S : BS) (la : Int → Nat) (q : Nat) (t : List SLine) (W : WG) : Prop := Fi S 85 q ((t.length - W.2.2.2.2.length : Nat) : Int) ∧ Fe S 86 q (some (la W.1.1)) ∧ Fi S 87 q (b2i W.2.1)
def StW (S : BS) (K : Nat → Nat) (la : Int → Nat) (q oq ar pq dq : Nat) (t : List SLine) (Sg : SS) (cap B : Nat) : Prop := StS S K la q oq ar pq dq t Sg (allL Sg.1) cap B ∧ StWk S la q t Sg.1
/-- frames: of acts, of runs -/
abbrev XA (K : Nat → Nat) (q pq dq : Nat) (S S' : BS) : Prop := XS K (fun _ => False) (WSt q pq dq) S S'
section ST
variable {d n m q oq ar pq dq a b f y cap cap' c pl i k B B' st tu p : Nat} {S S' S1 S2 : BS} {K : Nat → Nat} {V F W9 : Nat → Prop} {o : Obj} {la la1 : Int → Nat} {t pu re rs : List SLine} {x z : SLine} {g ov rp : Bool} {du rows : List (List Int)} {W : WG} {G G' : BG} {ru : Nat → Nat → RG} {r : Option Nat} {v nn : Int} {s row : List Int} {h9 o9 : List (List Int)} {fi : Nat → List (List Int)} {mk : Nat → Option Int} {ad : SAdr} {ado : Option SAdr} {xs ys : List (Option Nat)} {mc : Nat}
theorem StK.wo (h : StK K F q ar pq dq) : XsK K F (WSt q pq dq) := ⟨h.1, fun m hm => by
  rcases hm with rfl | rfl | rfl
  · exact ⟨h.2.1.1, h.2.2.1⟩
  · exact ⟨h.2.1.2.2.1, h.2.2.2.1⟩
  · exact ⟨h.2.1.2.2.2, h.2.2.2.2⟩⟩
theorem StK.w0 (h : StK K F q ar pq dq) : XsK K (fun _ => False) (WSt q pq dq) := ⟨fun _ z => z.elim, fun m hm => ⟨(h.wo.2 m hm).1, fun z => z⟩⟩
theorem XS.up (h : XS K (fun _ => False) W9 S S') : XS K F W9 S S' := fun P hP hS => h P ⟨hP.1, hP.2.1, fun _ _ _ _ hm => hm.elim⟩ hS
theorem StO.xf (h : StO S K la q oq ar pq dq t) (hk : StK K F q ar pq dq) (hX : XF K V S S') : StO S' K la q oq ar pq dq t := by
  obtain ⟨h1, h2, h3, h4, h5, h6, h7⟩ := h
  have kq := hk.2.1.1
  exact ⟨(hX.ob h1 kq (oNe rfl) rfl).1, hX.fe h1 kq (oNe rfl) rfl h2 (by decide), hX.fe h1 kq (oNe rfl) rfl h3 (by decide), hX.fe h1 kq (oNe rfl) rfl h4 (by decide), hX.fe h1 kq (oNe rfl) rfl h5 (by decide), hX.fe h1 kq (oNe rfl) rfl h6 (by decide), (hX.ob h7 hk.2.1.2.1 (oNe rfl) rfl).1⟩
theorem StN.xf (h : StN S q t re st tu ov) (hq : Ob S q (oOwn 12)) (kq : KoM K q) (hX : XF K V S S') : StN S' q t re st tu ov := by
  obtain ⟨⟨h1, h2, h3, h4⟩, h5⟩ := h
  exact ⟨⟨hX.fi hq kq (oNe rfl) rfl h1 (by decide), hX.fi hq kq (oNe rfl) rfl h2 (by decide), hX.fi hq kq (oNe rfl) rfl h3 (by decide), hX.fi hq kq (oNe rfl) rfl h4 (by decide)⟩, h5⟩
theorem StWk.xf (h : StWk S la q t W) (hq : Ob S q (oOwn 12)) (kq : KoM K q) (hX : XF K V S S') : StWk S' la q t W := ⟨hX.fi hq kq (oNe rfl) rfl h.1 (by decide), hX.fe hq kq (oNe rfl) rfl h.2.1 (by decide), hX.fi hq kq (oNe rfl) rfl h.2.2 (by decide)⟩
theorem StS.xf (h : StS S K la q oq ar pq dq t (W, G, st, tu, ov, ru) rs cap B) (hk : StK K F q ar pq dq) (hX : XF K V S S') (hL : ∃ p, LB S' K la (idsOfL t) p G' (B' + 6 * cap)) (hn : G'.2.2.2.2.1 = G.2.2.2.2.1) (hV : ∀ x ∈ rs, ¬ V (la x.1)) : StS S' K la q oq ar pq dq t (W, G', st, tu, ov, ru) rs cap B' := by
  obtain ⟨h1, ⟨p, h2⟩, ⟨mc, h3⟩, ⟨xs, h4, h5⟩, h6, h7⟩ := h
  have h8 : RowsI S' la G.2.2.2.2.1 rs := RowsI.xf h7 hX hV h2
  refine ⟨h1.xf hk hX, hL, ⟨mc, (hX.ob h3 hk.2.1.2.2.1 (oNe rfl) rfl).1⟩, ⟨xs, (hX.ob h4 hk.2.1.2.2.2 (oNe rfl) rfl).1, hX.strs h5⟩, h6.xf h1.1 hk.2.1.1 hX, ?_⟩
  show RowsI S' la G'.2.2.2.2.1 rs
  rw [hn]; exact h8
theorem StW.xf (h : StW S K la q oq ar pq dq t (W, G, st, tu, ov, ru) cap B) (hk : StK K F q ar pq dq) (hX : XF K V S S') (hL : ∃ p, LB S' K la (idsOfL t) p G' (B' + 6 * cap)) (hn : G'.2.2.2.2.1 = G.2.2.2.2.1) (hV : ∀ x ∈ allL W, ¬ V (la x.1)) : StW S' K la q oq ar pq dq t (W, G', st, tu, ov, ru) cap B' := ⟨h.1.xf hk hX hL hn hV, h.2.xf h.1.1.1 hk.2.1.1 hX⟩
theorem StS.le (h : StS S K la q oq ar pq dq t (W, G, st, tu, ov, ru) rs cap B) (hB : B ≤ B') (hB2 : B' + 6 * cap ≤ 20000000) : StS S K la q oq ar pq dq t (W, G, st, tu, ov, ru) rs cap B' := by
  obtain ⟨h1, ⟨p, h2⟩, h3⟩ := h
  exact ⟨h1, ⟨p, h2.le (by omega) hB2⟩, h3⟩
theorem StW.le (h : StW S K la q oq ar pq dq t (W, G, st, tu, ov, ru) cap B) (hB : B ≤ B') (hB2 : B' + 6 * cap ≤ 20000000) : StW S K la q oq ar pq dq t (W, G, st, tu, ov, ru) cap B' := ⟨h.1.le hB hB2, h.2⟩
/-- what is put grows -/
theorem StO.sT (h : StO S K la q oq ar pq dq t) (hm : Ob S m o) (hF : Fr1 S S' m c) (ho : o ≠ oOwn 12 ∧ ∀ k xs, o ≠ oRa k xs) : StO S' K la q oq ar pq dq t := by
  obtain ⟨h1, h2, h3, h4, h5, h6, h7⟩ := h
  have hq : q ≠ m := fun z => ho.1 (hm.symm.trans (z ▸ h1))
  have e := h1.old (oNe rfl)
  exact ⟨h1.fr hF ⟨oNe rfl, hq⟩, h2.fr hF ⟨⟨e, by decide⟩, hq⟩, h3.fr hF ⟨⟨e, by decide⟩, hq⟩, h4.fr hF ⟨⟨e, by decide⟩, hq⟩, h5.fr hF ⟨⟨e, by decide⟩, hq⟩, h6.fr hF ⟨⟨e, by decide⟩, hq⟩, h7.fr hF ⟨oNe rfl, fun z => ho.2 _ _ (hm.symm.trans (z ▸ h7))⟩⟩
theorem StN.sT (h : StN S q t re st tu ov) (hq : Ob S q (oOwn 12)) (hm : Ob S m o) (hF : Fr1 S S' m c) (ho : o ≠ oOwn 12) : StN S' q t re st tu ov := by
  obtain ⟨⟨h1, h2, h3, h4⟩, h5⟩ := h
  have hn : q ≠ m := fun z => ho (hm.symm.trans (z ▸ hq))
  have e := hq.old (oNe rfl)
  exact ⟨⟨h1.fr hF ⟨⟨e, by decide⟩, hn⟩, h2.fr hF ⟨⟨e, by decide⟩, hn⟩, h3.fr hF ⟨⟨e, by decide⟩, hn⟩, h4.fr hF ⟨⟨e, by decide⟩, hn⟩⟩, h5⟩
theorem StWk.sT (h : StWk S la q t W) (hq : Ob S q (oOwn 12)) (hm : Ob S m o) (hF : Fr1 S S' m c) (ho : o ≠ oOwn 12) : StWk S' la q t W := by
  have hn : q ≠ m := fun z => ho (hm.symm.trans (z ▸ hq))
  have e := hq.old (oNe rfl)
  exact ⟨h.1.fr hF ⟨⟨e, by decide⟩, hn⟩, h.2.1.fr hF ⟨⟨e, by decide⟩, hn⟩, h.2.2.fr hF ⟨⟨e, by decide⟩, hn⟩⟩
/-- a line is put -/
theorem StS.putL (h : StS S K la q oq ar pq dq t ((x, g, du, pu, re), G, st, tu, ov, ru) rs cap B) (hk : StK K F q ar pq dq) (hp : Ob S pq (oLl (lsOf la (idsOfL pu)) mc)) (hp2 : Ob S' pq (oLl (lsOf la (idsOfL pu) ++ [some (la z.1)]) (mc + 1))) (hF : Fr1 S S' pq 16) (hB : B + 16 + 6 * cap ≤ 20000000) : StS S' K la q oq ar pq dq t ((x, g, du, pu ++ [z], re), G, st, tu, ov, ru) rs cap (B + 16) := by
  obtain ⟨h1, ⟨p, h2⟩, -, ⟨xs, h4, h5⟩, h6, h7⟩ := h
  have LW : LoW K S (fun k => k = pq) := LoW.one hk.2.1.2.2.1 hp (oNe rfl) rfl
  refine ⟨h1.sT hp hF ⟨oNe rfl, fun _ _ => oNe rfl⟩, ⟨p, ?_⟩, ⟨mc + 1, ?_⟩, ⟨xs, h4.fr hF ⟨oNe rfl, h4.ne hp (oNe rfl)⟩, h5.fr hF (NoS.one hp rfl)⟩, h6.sT h1.1 hp hF (oNe rfl), h7.fr hF LW⟩
  · exact (h2.fr hF LW (by omega)).le (by omega) hB
  · show Ob S' pq (oLl (lsOf la (idsOfL (pu ++ [z]))) (mc + 1))
    rw [idsOfL_app, lsOf_app]
    exact hp2
theorem StO.lae {n : Int} (h : StO S K la q oq ar pq dq t) (hE : LaE la la1 n) (hi : ∀ x ∈ idsOfL t, x < n) : StO S K la1 q oq ar pq dq t := by
  obtain ⟨h1, h2, h3, h4, h5, h6, h7⟩ := h
  refine ⟨h1, h2, h3, h4, h5, h6, ?_⟩
  rw [lsOf_ext (fun x hx => hE x (hi x hx))]
  exact h7
theorem L_putLine (h : StS S K la q oq ar pq dq t ((x, g, du, pu, re), G, st, tu, ov, ru) rs cap B) (hk : StK K F q ar pq dq) (hz : Ob S (la z.1) (oOwn 6)) (h40 : pu.length ≤ 40) (hB : B + 16 + 6 * cap ≤ 20000000) : BM (d + 5) gk_X13_putLine [aR q, aR (la z.1)] S (fun r S' => if pu.length = 40 then Thr9 11 78 4 S r S' else r = .inl none ∧ StS S' K la q oq ar pq dq t ((x, g, du, pu ++ [z], re), G, st, tu, ov, ru) rs cap (B + 16) ∧ XA K q pq dq S S' ∧ Fr1 S S' pq 16) := by
  have h0 := h
  obtain ⟨⟨hq, h79, h80, h81, h82, h90, har⟩, ⟨p, hL⟩, ⟨mc, hp⟩, -⟩ := h0
  have hp : Ob S pq (oLl (lsOf la (idsOfL pu)) mc) := hp
  have hpl : (lsOf la (idsOfL pu)).length = pu.length := by rw [lsOf_len, ids_len]
  obtain ⟨htt, _⟩ := hL.tt
  refine BM.of rfl rfl rfl ?_
  (repeat (first | (refine BW.pl rfl rfl ?_) | (refine CW.geti rfl rfl (by assumption) rfl rfl (by assumption) (fun _ => ?_)) | (refine CW.getr rfl rfl (by assumption) rfl rfl (by assumption) ?_)))
  refine CW.e1 rfl rfl (by first | exact Or.inl rfl | exact Or.inr (tagO (by assumption) (by rfl) (by rfl))) (by first | exact Or.inl (by decide) | exact Or.inr ⟨_, rfl, by assumption⟩) rfl (B_llSize hp) ?_
  rw [hpl]
  (repeat (refine BW.pl rfl rfl ?_))
  by_cases z40 : pu.length = 40
  · refine BW.br rfl rfl (by first | omega | decide | (constructor <;> first | omega | decide)) (fun w => ?_) (fun w => by first | (exfalso; omega) | exact absurd w (by decide))
    (repeat (refine BW.pl rfl rfl ?_))
    refine CW.need rfl rfl (by decide) rfl (Or.inl rfl) (by decide) rfl (fun w => absurd w (by decide)) (fun _ r9 S9 hT9 => ?_)
    rw [if_pos z40]
    exact hT9
  · refine BW.br rfl rfl (by first | omega | decide | (constructor <;> first | omega | decide)) (fun w => by first | (exfalso; omega) | exact absurd w (by decide)) (fun w => ?_)
    (repeat (refine BW.pl rfl rfl ?_))
    refine CW.need rfl rfl (by decide) rfl (Or.inr rfl) (by decide) rfl (fun _ => ?_) (fun w => absurd w (by decide))
    (repeat (first | (refine BW.pl rfl rfl ?_) | (refine CW.geti rfl rfl (by assumption) rfl rfl (by assumption) (fun _ => ?_)) | (refine CW.getr rfl rfl (by assumption) rfl rfl (by assumption) ?_)))
    refine CW.c2 rfl rfl (by first | exact Or.inl rfl | exact Or.inr (tagO (by assumption) (by rfl) (by rfl))) (by first | exact Or.inl (by decide) | exact Or.inr ⟨_, rfl, by assumption⟩) rfl (C_llAdd hp (vOk_o hz rfl) (by rw [hpl]; omega) (by omega)) ?_
    rintro r S2 ⟨rfl, hp2, hF2⟩
    refine BW.ret rfl rfl ?_
    rw [if_neg z40]
    exact ⟨rfl, h.putL hk hp hp2 hF2 hB, XS.rf.st (Or.inr (Or.inl rfl)) hp (Or.inr (Or.inl ⟨_, _, rfl⟩)) hF2, hF2⟩
/-- a row is put -/
theorem L_putRow (h : StS S K la q oq ar pq dq t ((x, g, du, pu, re), (h9, o9, fi, mk, nn, rp), st, tu, ov, ru) rs cap B) (hk : StK K F q ar pq dq) (hy : Ob S y (oStr row)) (hyk : okS (some y)) (h40 : pu.length ≤ 40) (hpu : ∀ z ∈ pu, z.1 < nn) (hn : nn + 1 < 2000000) (hB : B + 30 + 6 * cap ≤ 20000000) : BM (d + 5) gk_X13_putRow [aR q, aR y] S (fun r S' => if pu.length = 40 then Thr9 11 78 4 S r S' else r = .inl none ∧ ∃ la1, StS S' K la1 q oq ar pq dq t ((x, g, du, pu ++ [(nn, row)], re), (h9, o9, fi, mk, nn + 1, rp), st, tu, ov, ru) (rs ++ [(nn, row)]) cap (B + 30) ∧ XA K q pq dq S S' ∧ LaE la la1 nn ∧ (StWk S la q t (x, g, du, pu, re) → x.1 < nn → StWk S' la1 q t (x, g, du, pu ++ [(nn, row)], re))) := by
  have h0 := h
  obtain ⟨hO, ⟨p, hL⟩, ⟨mc, hp⟩, ⟨xs, h4, h5⟩, h6, h7⟩ := h0
  obtain ⟨hq, h79, h80, h81, h82, h90, har⟩ := id hO
  have hp : Ob S pq (oLl (lsOf la (idsOfL pu)) mc) := hp
  have hL : LB S K la (idsOfL t) p (h9, o9, fi, mk, nn, rp) (B + 6 * cap) := hL
  have h5 : StrsIs S xs du := h5
  have h7 : RowsI S la nn rs := h7
  have h6 : StN S q t re st tu ov := h6
  have hpl : (lsOf la (idsOfL pu)).length = pu.length := by rw [lsOf_len, ids_len]
  obtain ⟨htt, _⟩ := hL.tt
  have hx := hL.obx
  refine BM.of rfl rfl rfl ?_
  (repeat (first | (refine BW.pl rfl rfl ?_) | (refine CW.geti rfl rfl (by assumption) rfl rfl (by assumption) (fun _ => ?_)) | (refine CW.getr rfl rfl (by assumption) rfl rfl (by assumption) ?_)))
  refine CW.e1 rfl rfl (by first | exact Or.inl rfl | exact Or.inr (tagO (by assumption) (by rfl) (by rfl))) (by first | exact Or.inl (by decide) | exact Or.inr ⟨_, rfl, by assumption⟩) rfl (B_llSize hp) ?_
  rw [hpl]
  (repeat (refine BW.pl rfl rfl ?_))
  by_cases z40 : pu.length = 40
  · refine BW.br rfl rfl (by first | omega | decide | (constructor <;> first | omega | decide)) (fun w => ?_) (fun w => by first | (exfalso; omega) | exact absurd w (by decide))
    (repeat (refine BW.pl rfl rfl ?_))
    refine CW.need rfl rfl (by decide) rfl (Or.inl rfl) (by decide) rfl (fun w => absurd w (by decide)) (fun _ r9 S9 hT9 => ?_)
    rw [if_pos z40]
    exact hT9
  · refine BW.br rfl rfl (by first | omega | decide | (constructor <;> first | omega | decide)) (fun w => by first | (exfalso; omega) | exact absurd w (by decide)) (fun w => ?_)
    (repeat (refine BW.pl rfl rfl ?_))
    refine CW.need rfl rfl (by decide) rfl (Or.inr rfl) (by decide) rfl (fun _ => ?_) (fun w => absurd w (by decide))
    (repeat (first | (refine BW.pl rfl rfl ?_) | (refine CW.geti rfl rfl (by assumption) rfl rfl (by assumption) (fun _ => ?_)) | (refine CW.getr rfl rfl (by assumption) rfl rfl (by assumption) ?_)))
    (repeat (refine BW.pl rfl rfl ?_))
    refine CW.c2 rfl rfl (by first | exact Or.inl rfl | exact Or.inr (tagO (by assumption) (by rfl) (by rfl))) (by first | exact Or.inl (by decide) | exact Or.inr ⟨_, rfl, by assumption⟩) rfl (L_makeLine (V := fun _ => False) hL hy hyk hn (by omega)) ?_
    rintro r S1 ⟨m, rfl, hm0, hm6, hL1, hR1, hX1, hF1⟩
    have hE : LaE la (upL la nn m) nn := LaE.up
    have hL1 : LB S1 K (upL la nn m) (idsOfL t) p (h9, o9, fi, mk, nn + 1, rp) (B + 6 * cap + 14) := hL1
    have hR1 : RowI S1 (upL la nn m) (nn + 1) (nn, row) := hR1
    have hp1 := (hX1.ob hp hk.2.1.2.2.1 (oNe rfl) rfl).1
    have hti : ∀ x ∈ idsOfL t, x < nn := fun x hx => (hL.2.2.1.2.2 x hx).2
    have hpi : ∀ x ∈ idsOfL pu, x < nn := fun x hx => by
      obtain ⟨z, hz, e⟩ := List.mem_map.mp hx
      rw [← e]; exact hpu z hz
    have hO1 := (hO.xf hk hX1).lae hE hti
    obtain ⟨htt1, _⟩ := hL1.tt
    refine CW.c2 rfl rfl (by first | exact Or.inl rfl | exact Or.inr (tagO (by assumption) (by rfl) (by rfl))) (by first | exact Or.inl (by decide) | exact Or.inr ⟨_, rfl, by assumption⟩) rfl (C_llAdd hp1 (vOk_o hm6 rfl) (by rw [hpl]; omega) (by omega)) ?_
    rintro r S2 ⟨rfl, hp2, hF2⟩
    have LW : LoW K S1 (fun k => k = pq) := LoW.one hk.2.1.2.2.1 hp1 (oNe rfl) rfl
    have h71 : RowsI S1 (upL la nn m) (nn + 1) rs := RowsI.upl (RowsI.xf h7 hX1 (fun _ _ z => z) hL) (by omega)
    have h72 : RowsI S1 (upL la nn m) (nn + 1) (rs ++ [(nn, row)]) := h71.app (fun z hz => by rw [List.mem_singleton.mp hz]; exact hR1)
    have ob9 : upL la nn m nn = m := if_pos rfl
    refine BW.ret rfl rfl ?_
    rw [if_neg z40]
    refine ⟨rfl, upL la nn m, ⟨hO1.sT hp1 hF2 ⟨oNe rfl, fun _ _ => oNe rfl⟩, ⟨p, (hL1.fr hF2 LW (by omega)).le (by omega) hB⟩, ⟨mc + 1, ?_⟩, ⟨xs, ((hX1.ob h4 hk.2.1.2.2.2 (oNe rfl) rfl).1).fr hF2 ⟨oNe rfl, ((hX1.ob h4 hk.2.1.2.2.2 (oNe rfl) rfl).1).ne hp1 (oNe rfl)⟩, (hX1.strs h5).fr hF2 (NoS.one hp1 rfl)⟩, (h6.xf hq hk.2.1.1 hX1).sT hO1.1 hp1 hF2 (oNe rfl), h72.fr hF2 LW⟩, (XS.of hX1).st (Or.inr (Or.inl rfl)) hp1 (Or.inr (Or.inl ⟨_, _, rfl⟩)) hF2, hE, fun hw hxn => ?_⟩
    · show Ob S2 pq (oLl (lsOf (upL la nn m) (idsOfL (pu ++ [(nn, row)]))) (mc + 1))
      rw [idsOfL_app, lsOf_app, lsOf_ext (fun x hx => hE x (hpi x hx))]
      show Ob S2 pq (oLl (lsOf la (idsOfL pu) ++ [some (upL la nn m nn)]) (mc + 1))
      rw [ob9]
      exact hp2
    · have hw1 := (hw.xf hq hk.2.1.1 hX1).sT hO1.1 hp1 hF2 (oNe rfl)
      refine ⟨hw1.1, ?_, hw1.2.2⟩
      have e := hE x.1 hxn
      show Fe S2 86 q (some (upL la nn m x.1))
      rw [e]
      exact hw1.2.1
/-- lines by numbers -/
theorem L_isNumber (hA : AdrIs S F a ad) : BE (d + 1) gk_X6_isNumber [aR a] S (vI (b2i (stNumr ad))) := by
  obtain ⟨f, h1, h18, -⟩ := hA
  refine BM.of rfl rfl rfl ?_
  (repeat (first | (refine BW.pl rfl rfl ?_) | (refine CW.geti rfl rfl (by assumption) rfl rfl (by assumption) (fun _ => ?_)) | (refine CW.getr rfl rfl (by assumption) rfl rfl (by assumption) ?_)))
  by_cases z1 : ad.1 = 48
  · refine BW.br rfl rfl (by first | omega | decide | (constructor <;> first | omega | decide)) (fun w1 => ?_) (fun w1 => by first | (exfalso; omega) | exact absurd w1 (by decide))
    (repeat (refine BW.pl rfl rfl ?_))
    have e : stNumr ad = true := decide_eq_true (Or.inl z1)
    rw [e]
    exact BW.irx rfl (Or.inr (Or.inl ⟨rfl, Or.inr rfl⟩)) ⟨_, rfl, rfl, rfl⟩
  · refine BW.br rfl rfl (by first | omega | decide | (constructor <;> first | omega | decide)) (fun w1 => by first | (exfalso; omega) | exact absurd w1 (by decide)) (fun w1 => ?_)
    (repeat (first | (refine BW.pl rfl rfl ?_) | (refine CW.geti rfl rfl (by assumption) rfl rfl (by assumption) (fun _ => ?_)) | (refine CW.getr rfl rfl (by assumption) rfl rfl (by assumption) ?_)))
    by_cases z2 : ad.1 = 36
    · refine BW.br rfl rfl (by first | omega | decide | (constructor <;> first | omega | decide)) (fun w2 => by first | (exfalso; omega) | exact absurd w2 (by decide)) (fun w2 => ?_)
      (repeat (refine BW.pl rfl rfl ?_))
      have e : stNumr ad = true := decide_eq_true (Or.inr z2)
      rw [e]
      exact BW.irx rfl (Or.inr (Or.inl ⟨rfl, Or.inr rfl⟩)) ⟨_, rfl, rfl, rfl⟩
    · refine BW.br rfl rfl (by first | omega | decide | (constructor <;> first | omega | decide)) (fun w2 => ?_) (fun w2 => by first | (exfalso; omega) | exact absurd w2 (by decide))
      (repeat (refine BW.pl rfl rfl ?_))
      have e : stNumr ad = false := decide_eq_false (fun z => z.elim z1 z2)
      rw [e]
      exact BW.irx rfl (Or.inr (Or.inl ⟨rfl, Or.inl rfl⟩)) ⟨_, rfl, rfl, rfl⟩
theorem L_mayStand (hA : AdO S F r ado) : BE (d + 2) gk_X13_mayStand [aR q, aQ r] S (vI (if stBarA ado = true then 0 else 1)) := by
  cases ado with
  | none =>
    have hA : r = none := hA
    subst hA
    refine BM.of rfl rfl rfl ?_
    (repeat (refine BW.pl rfl rfl ?_))
    refine CW.nul rfl rfl (fun n h => by cases h) ?_
    (repeat (refine BW.pl rfl rfl ?_))
    exact BW.irx rfl (Or.inr (Or.inl ⟨rfl, Or.inr rfl⟩)) ⟨_, rfl, rfl, rfl⟩
  | some ad =>
    obtain ⟨a, rfl, hA⟩ := hA
    obtain ⟨f, h1, h18, h19, h21, h22, h7⟩ := id hA
    have e : stBarA (some ad) = (ad.2.2.2.2 && !stNumr ad) := rfl
    rw [e]
    refine BM.of rfl rfl rfl ?_
    (repeat (refine BW.pl rfl rfl ?_))
    refine CW.nul rfl rfl (fun n h => by cases h; rw [show S.1 a = _ from h1]; rfl) ?_
    cases hm : ad.2.2.2.2 with
    | false =>
      rw [hm] at h22
      replace h22 : Fi S 22 a 0 := h22
      (repeat (first | (refine BW.pl rfl rfl ?_) | (refine CW.geti rfl rfl (by assumption) rfl rfl (by assumption) (fun _ => ?_)) | (refine CW.getr rfl rfl (by assumption) rfl rfl (by assumption) ?_)))
      refine BW.br rfl rfl (by first | omega | decide | (constructor <;> first | omega | decide)) (fun w1 => ?_) (fun w1 => by first | (exfalso; omega) | exact absurd w1 (by decide))
      (repeat (refine BW.pl rfl rfl ?_))
      exact BW.irx rfl (Or.inr (Or.inl ⟨rfl, Or.inr rfl⟩)) ⟨_, rfl, rfl, rfl⟩
    | true =>
      rw [hm] at h22
      replace h22 : Fi S 22 a 1 := h22
      (repeat (first | (refine BW.pl rfl rfl ?_) | (refine CW.geti rfl rfl (by assumption) rfl rfl (by assumption) (fun _ => ?_)) | (refine CW.getr rfl rfl (by assumption) rfl rfl (by assumption) ?_)))
      refine BW.br rfl rfl (by first | omega | decide | (constructor <;> first | omega | decide)) (fun w1 => by first | (exfalso; omega) | exact absurd w1 (by decide)) (fun w1 => ?_)
      (repeat (refine BW.pl rfl rfl ?_))
      refine CW.e1 rfl rfl (by first | exact Or.inl rfl | exact Or.inr (tagO (by assumption) (by rfl) (by rfl))) (by first | exact Or.inl (by decide) | exact Or.inr ⟨_, rfl, by assumption⟩) rfl (L_isNumber (d := d) hA) ?_
      cases hn : stNumr ad with
      | true =>
        refine BW.br rfl rfl (by first | omega | decide | (constructor <;> first | omega | decide)) (fun w2 => by first | (exfalso; omega) | exact absurd w2 (by decide)) (fun w2 => ?_)
        (repeat (refine BW.pl rfl rfl ?_))
        exact BW.irx rfl (Or.inr (Or.inl ⟨rfl, Or.inr rfl⟩)) ⟨_, rfl, rfl, rfl⟩
      | false =>
        refine BW.br rfl rfl (by first | omega | decide | (constructor <;> first | omega | decide)) (fun w2 => ?_) (fun w2 => by first | (exfalso; omega) | exact absurd w2 (by decide))
        (repeat (refine BW.pl rfl rfl ?_))
        exact BW.irx rfl (Or.inr (Or.inl ⟨rfl, Or.inl rfl⟩)) ⟨_, rfl, rfl, rfl⟩
theorem L_stVal (hO : StO S K la q oq ar pq dq t) (hA : AdrIs S F a ad) (hr : (-1 ≤ ad.2.1 ∧ ad.2.1 < 1000) ∧ -1000 < ad.2.2.2.1 ∧ ad.2.2.2.1 < 1000) (h40 : t.length ≤ 40) : BE (d + 1) gk_X13_valueOf [aR q, aR a] S (vI (stVal t.length ad)) := by
  obtain ⟨hq, h79, h80, h81, h82, h90, har⟩ := hO
  obtain ⟨f, h1, h18, h19, h21, h22, h7⟩ := hA
  have hl : (lsOf la (idsOfL t)).length = t.length := by rw [lsOf_len, ids_len]
  refine BM.of rfl rfl rfl ?_
  (repeat (first | (refine BW.pl rfl rfl ?_) | (refine CW.geti rfl rfl (by assumption) rfl rfl (by assumption) (fun _ => ?_)) | (refine CW.getr rfl rfl (by assumption) rfl rfl (by assumption) ?_)))
  by_cases z : ad.1 = 36
  · have e : stVal t.length ad = (t.length : Int) + ad.2.2.2.1 := by unfold stVal; rw [if_pos z]
    rw [e]
    refine BW.br rfl rfl (by first | omega | decide | (constructor <;> first | omega | decide)) (fun w => by first | (exfalso; omega) | exact absurd w (by decide)) (fun w => ?_)
    (repeat (first | (refine BW.pl rfl rfl ?_) | (refine CW.geti rfl rfl (by assumption) rfl rfl (by assumption) (fun _ => ?_)) | (refine CW.getr rfl rfl (by assumption) rfl rfl (by assumption) ?_)))
    refine CW.alenR rfl har (fun _ => ?_)
    rw [hl]
    (repeat (first | (refine BW.pl rfl rfl ?_) | (refine CW.geti rfl rfl (by assumption) rfl rfl (by assumption) (fun _ => ?_)) | (refine CW.getr rfl rfl (by assumption) rfl rfl (by assumption) ?_)))
    exact BW.irx rfl (Or.inl ⟨rfl, by constructor <;> omega⟩) ⟨_, rfl, rfl, rfl⟩
  · have e : stVal t.length ad = ad.2.1 + ad.2.2.2.1 := by unfold stVal; rw [if_neg z]
    rw [e]
    refine BW.br rfl rfl (by first | omega | decide | (constructor <;> first | omega | decide)) (fun w => ?_) (fun w => by first | (exfalso; omega) | exact absurd w (by decide))
    (repeat (first | (refine BW.pl rfl rfl ?_) | (refine CW.geti rfl rfl (by assumption) rfl rfl (by assumption) (fun _ => ?_)) | (refine CW.getr rfl rfl (by assumption) rfl rfl (by assumption) ?_)))
    exact BW.irx rfl (Or.inl ⟨rfl, by constructor <;> omega⟩) ⟨_, rfl, rfl, rfl⟩
theorem L_fallDue (hq : Ob S q (oOwn 12)) (h82 : Fe S 82 q (some dq)) (hd : Ob S dq (oAd xs cap)) (hds : StrsIs S xs du) (hb : Ob S b (oRa 105 ys)) (hs : StrsIs S ys rows) (hcap : cap ≤ 24400) (hl : du.length + rows.length ≤ 16050) : BMr (d + 5) gk_X13_fallDue [aR q, aR b] S (fun r S' => r = none ∧ ∃ cap', cap ≤ cap' ∧ cap' ≤ 24400 ∧ (∃ xs', Ob S' dq (oAd xs' cap') ∧ StrsIs S' xs' (du ++ rows)) ∧ Fr1 S S' dq (6 * (cap' - cap))) := by
  have hyl := hs.1
  have hxl := hds.1
  refine BM.of rfl rfl rfl ?_
  have loop : ∀ (N j : Nat) (S2 : BS) (xs2 : List (Option Nat)) (cap2 : Nat), j + N = rows.length → cap ≤ cap2 → cap2 ≤ 24400 → Ob S2 q (oOwn 12) → Fe S2 82 q (some dq) → Ob S2 dq (oAd xs2 cap2) → StrsIs S2 xs2 (du ++ rows.take j) → Ob S2 b (oRa 105 ys) → StrsIs S2 ys rows → Fr1 S S2 dq (6 * (cap2 - cap)) → BW (d + 4) gm_X13_fallDue 2 [some (aR q), some (aR b), some (aI j)] [] S2 (fun r S' => ∃ v, r = .inl v ∧ (v = none ∧ ∃ cap', cap ≤ cap' ∧ cap' ≤ 24400 ∧ (∃ xs', Ob S' dq (oAd xs' cap') ∧ StrsIs S' xs' (du ++ rows)) ∧ Fr1 S S' dq (6 * (cap' - cap)))) := by
    intro N
    induction N with
    | zero =>
      intro j S2 xs2 cap2 hj hc1 hc2 hq2 h822 hd2 hds2 hb2 hs2 hF2
      have ej : rows.take j = rows := List.take_of_length_le (by omega)
      rw [ej] at hds2
      (repeat (refine BW.pl rfl rfl ?_))
      refine CW.alenR rfl hb2 (fun _ => ?_)
      refine BW.br rfl rfl (by first | omega | decide | (constructor <;> first | omega | decide)) (fun w => ?_) (fun w => by first | (exfalso; omega) | exact absurd w (by decide))
      exact BW.ret rfl rfl ⟨_, rfl, rfl, cap2, hc1, hc2, ⟨xs2, hd2, hds2⟩, hF2⟩
    | succ N ih =>
      intro j S2 xs2 cap2 hj hc1 hc2 hq2 h822 hd2 hds2 hb2 hs2 hF2
      have hjl : j < rows.length := by omega
      obtain ⟨⟨y, hy1, hy2⟩, hyk⟩ := hs2.2 j hjl
      have ej : ((j : Nat) : Int).toNat = j := by omega
      have hgj : ys.getD ((j : Int)).toNat none = some y := by rw [ej]; exact hy1
      have hx2l := hds2.1
      rw [List.length_append, List.length_take] at hx2l
      (repeat (refine BW.pl rfl rfl ?_))
      refine CW.alenR rfl hb2 (fun _ => ?_)
      refine BW.br rfl rfl (by first | omega | decide | (constructor <;> first | omega | decide)) (fun w => by first | (exfalso; omega) | exact absurd w (by decide)) (fun w => ?_)
      (repeat (first | (refine BW.pl rfl rfl ?_) | (refine CW.geti rfl rfl (by assumption) rfl rfl (by assumption) (fun _ => ?_)) | (refine CW.getr rfl rfl (by assumption) rfl rfl (by assumption) ?_)))
      refine CW.aald rfl hb2 ⟨by omega, by omega⟩ ?_
      rw [hgj]
      refine CW.c2 rfl rfl (by first | exact Or.inl rfl | exact Or.inr (tagO (by assumption) (by rfl) (by rfl))) (by first | exact Or.inl (by decide) | exact Or.inr ⟨_, rfl, by assumption⟩) rfl (C_adAdd hd2 (vOk_o hy2 rfl) (by omega)) ?_
      rintro r S3 ⟨rfl, cap3, hd3, hF3, hc3, hc4⟩
      have hc5 : cap3 ≤ 24400 := by omega
      have et : rows.take (j + 1) = rows.take j ++ [rows.getD j []] := by
        rw [List.take_succ_eq_append_getElem hjl, List.getD_eq_getElem?_getD, List.getElem?_eq_getElem hjl]; rfl
      have hds3 : StrsIs S3 (xs2 ++ [some y]) (du ++ rows.take (j + 1)) := by
        rw [et, ← List.append_assoc]
        exact (hds2.fr hF3 (NoS.one hd2 rfl)).app ⟨⟨y, rfl, hy2.fr hF3 ⟨oNe rfl, hy2.ne hd2 (oNe rfl)⟩⟩, by rw [← hy1]; exact hyk⟩
      (iterate 2 (refine BW.pl rfl rfl ?_))
      exact ih (j + 1) S3 _ cap3 (by omega) (by omega) hc5 (hq2.fr hF3 ⟨oNe rfl, hq2.ne hd2 (oNe rfl)⟩) (h822.fr hF3 ⟨⟨hq2.old (oNe rfl), by decide⟩, hq2.ne hd2 (oNe rfl)⟩) hd3 hds3 (hb2.fr hF3 ⟨oNe rfl, hb2.ne hd2 (oNe rfl)⟩) (hs2.fr hF3 (NoS.one hd2 rfl)) ((hF2.tr hF3 (fun _ _ z => z)).w (fun _ _ z => z) (by omega))
  (iterate 2 (refine BW.pl rfl rfl ?_))
  exact loop rows.length 0 S xs cap (Nat.zero_add _) (Nat.le_refl _) hcap hq h82 hd (by simp; exact hds) hb hs (Fr.rf.w (fun _ _ z => z) (Nat.zero_le _))
end ST
