-- C
set_option maxRecDepth 100000
/-! LINEORDERS: a stream: takeNext, putWork, putRest -/
section PW
variable {d n m q oq ar pq dq a b f y cap cap' cap1 c i k B B' B2 st tu p Bm : Nat} {S S' S1 S2 : BS} {K : Nat → Nat} {V F : Nat → Prop} {o : Obj} {la la1 : Int → Nat} {t pu re rs pu1 re1 : List SLine} {x z x1 : SLine} {g g1 ov rp run : Bool} {du rows du1 du' : List (List Int)} {W : WG} {G G1 : BG} {ru : Nat → Nat → RG} {r : Option Nat} {v nn n0 : Int} {s row : List Int} {h9 o9 : List (List Int)} {fi : Nat → List (List Int)} {mk : Nat → Option Int} {w : Nat} {rg : GO} {xs ys : List (Option Nat)}
theorem StN.wrk (h : StN S q t re st tu ov) (hP : Pu S S' 84 q) (hv : Fi S' 84 q v) (e : v = (tu : Int) + 1) : StN S' q t re st (tu + 1) ov := by
  obtain ⟨⟨h1, h2, h3, h4⟩, h5⟩ := h
  have ev : v = ((tu + 1 : Nat) : Int) := by omega
  rw [ev] at hv
  exact ⟨⟨h1.pu hP (Or.inl (by decide)), hv, h3.pu hP (Or.inl (by decide)), h4.pu hP (Or.inl (by decide))⟩, h5⟩
theorem StN.ovr (h : StN S q t re st tu ov) (hP : Pu S S' 88 q) (hv : Fi S' 88 q 1) : StN S' q t re st tu true := by
  obtain ⟨⟨h1, h2, h3, h4⟩, h5⟩ := h
  exact ⟨⟨h1.pu hP (Or.inl (by decide)), h2.pu hP (Or.inl (by decide)), hv, h4.pu hP (Or.inl (by decide))⟩, h5⟩
theorem StS.sub {rs' : List SLine} (h : StS S K la q oq ar pq dq t (W, G, st, tu, ov, ru) rs cap B) (hs : ∀ z ∈ rs', z ∈ rs) : StS S K la q oq ar pq dq t (W, G, st, tu, ov, ru) rs' cap B := by
  obtain ⟨a1, a2, a3, a4, a5, a6⟩ := h
  exact ⟨a1, a2, a3, a4, a5, a6.sub hs⟩
theorem L_takeNext (h : StS S K la q oq ar pq dq t ((x, g, [], pu, z :: re), (h9, o9, fi, mk, nn, rp), st, tu, ov, ru) (pu ++ z :: re) cap B) (hk : StK K F q ar pq dq) (h40 : t.length ≤ 40) (htu : tu < 100000) : BMr (d + 1) gk_X13_takeNext [aR q] S (fun r S' => r = none ∧ StW S' K la q oq ar pq dq t ((z, false, [], pu, re), (h9, o9, fi, mk, nn, false), st, tu + 1, ov, ru) cap B ∧ XA K q pq dq S S') := by
  obtain ⟨hq, h79, h80, h81, h82, h90, har⟩ := id h.1
  have hN : StN S q t (z :: re) st tu ov := h.2.2.2.2.1
  have h83 : Fi S 83 q ((t.length - (z :: re).length : Nat) : Int) := hN.1.1
  obtain ⟨a1, a2, a3, a4⟩ := ar_at (la := la) hN
  have hal : (lsOf la (idsOfL t)).length = t.length := by rw [lsOf_len, ids_len]
  have ejt : (((t.length - (z :: re).length : Nat) : Int)).toNat = t.length - (z :: re).length := by omega
  refine BM.of rfl rfl rfl ?_
  (repeat (first | (refine BW.pl rfl rfl ?_) | (refine CW.geti rfl rfl (by assumption) rfl rfl (by assumption) (fun _ => ?_)) | (refine CW.getr rfl rfl (by assumption) rfl rfl (by assumption) ?_)))
  refine CW.aald rfl har ⟨by omega, by omega⟩ ?_
  rw [ejt, a2]
  first | (refine CW.putr rfl rfl (by assumption) rfl (by decide) (fun S1 hP1 h861 => ?_)) | (refine CW.puti rfl (by assumption) rfl (by decide) (by first | exact Or.inl ⟨rfl, by first | omega | decide | (constructor <;> first | omega | decide)⟩ | exact Or.inr (Or.inl ⟨rfl, by first | omega | decide | (constructor <;> first | omega | decide)⟩) | exact Or.inr (Or.inr (Or.inl ⟨rfl, by first | omega | decide | (constructor <;> first | omega | decide)⟩)) | exact Or.inr (Or.inr (Or.inr ⟨rfl, by first | omega | decide | (constructor <;> first | omega | decide)⟩))) (fun S1 hP1 h861 => ?_))
  have g1 := h.puq (ru' := ru) (x' := z) (g' := false) hk hP1 (by decide) (hN.puq hP1 (Or.inr (Or.inl rfl)))
  have hq1 := g1.1.1
  have h831 : Fi S1 83 q ((t.length - (z :: re).length : Nat) : Int) := h83.pu hP1 (Or.inl (by decide))
  (repeat (first | (refine BW.pl rfl rfl ?_) | (refine CW.geti rfl rfl (by assumption) rfl rfl (by assumption) (fun _ => ?_)) | (refine CW.getr rfl rfl (by assumption) rfl rfl (by assumption) ?_)))
  first | (refine CW.putr rfl rfl (by assumption) rfl (by decide) (fun S2 hP2 h832 => ?_)) | (refine CW.puti rfl (by assumption) rfl (by decide) (by first | exact Or.inl ⟨rfl, by first | omega | decide | (constructor <;> first | omega | decide)⟩ | exact Or.inr (Or.inl ⟨rfl, by first | omega | decide | (constructor <;> first | omega | decide)⟩) | exact Or.inr (Or.inr (Or.inl ⟨rfl, by first | omega | decide | (constructor <;> first | omega | decide)⟩)) | exact Or.inr (Or.inr (Or.inr ⟨rfl, by first | omega | decide | (constructor <;> first | omega | decide)⟩))) (fun S2 hP2 h832 => ?_))
  have g2 := g1.puq (ru' := ru) (x' := z) (g' := false) hk hP2 (by decide) (StN.tak g1.2.2.2.2.1 hP2 h832 rfl)
  have hq2 := g2.1.1
  have h842 : Fi S2 84 q (tu : Int) := g2.2.2.2.2.1.1.2.1
  (repeat (first | (refine BW.pl rfl rfl ?_) | (refine CW.geti rfl rfl (by assumption) rfl rfl (by assumption) (fun _ => ?_)) | (refine CW.getr rfl rfl (by assumption) rfl rfl (by assumption) ?_)))
  first | (refine CW.putr rfl rfl (by assumption) rfl (by decide) (fun S3 hP3 h843 => ?_)) | (refine CW.puti rfl (by assumption) rfl (by decide) (by first | exact Or.inl ⟨rfl, by first | omega | decide | (constructor <;> first | omega | decide)⟩ | exact Or.inr (Or.inl ⟨rfl, by first | omega | decide | (constructor <;> first | omega | decide)⟩) | exact Or.inr (Or.inr (Or.inl ⟨rfl, by first | omega | decide | (constructor <;> first | omega | decide)⟩)) | exact Or.inr (Or.inr (Or.inr ⟨rfl, by first | omega | decide | (constructor <;> first | omega | decide)⟩))) (fun S3 hP3 h843 => ?_))
  have g3 := g2.puq (ru' := ru) (x' := z) (g' := false) hk hP3 (by decide) (StN.wrk g2.2.2.2.2.1 hP3 h843 rfl)
  have hq3 := g3.1.1
  have h833 : Fi S3 83 q ((t.length - re.length : Nat) : Int) := g3.2.2.2.2.1.1.1
  (repeat (first | (refine BW.pl rfl rfl ?_) | (refine CW.geti rfl rfl (by assumption) rfl rfl (by assumption) (fun _ => ?_)) | (refine CW.getr rfl rfl (by assumption) rfl rfl (by assumption) ?_)))
  first | (refine CW.putr rfl rfl (by assumption) rfl (by decide) (fun S4 hP4 h854 => ?_)) | (refine CW.puti rfl (by assumption) rfl (by decide) (by first | exact Or.inl ⟨rfl, by first | omega | decide | (constructor <;> first | omega | decide)⟩ | exact Or.inr (Or.inl ⟨rfl, by first | omega | decide | (constructor <;> first | omega | decide)⟩) | exact Or.inr (Or.inr (Or.inl ⟨rfl, by first | omega | decide | (constructor <;> first | omega | decide)⟩)) | exact Or.inr (Or.inr (Or.inr ⟨rfl, by first | omega | decide | (constructor <;> first | omega | decide)⟩))) (fun S4 hP4 h854 => ?_))
  have g4 := g3.puq (ru' := ru) (x' := z) (g' := false) hk hP4 (by decide) (StN.puq g3.2.2.2.2.1 hP4 (Or.inl rfl))
  have hq4 := g4.1.1
  (repeat (refine BW.pl rfl rfl ?_))
  first | (refine CW.putr rfl rfl (by assumption) rfl (by decide) (fun S5 hP5 h875 => ?_)) | (refine CW.puti rfl (by assumption) rfl (by decide) (by first | exact Or.inl ⟨rfl, by first | omega | decide | (constructor <;> first | omega | decide)⟩ | exact Or.inr (Or.inl ⟨rfl, by first | omega | decide | (constructor <;> first | omega | decide)⟩) | exact Or.inr (Or.inr (Or.inl ⟨rfl, by first | omega | decide | (constructor <;> first | omega | decide)⟩)) | exact Or.inr (Or.inr (Or.inr ⟨rfl, by first | omega | decide | (constructor <;> first | omega | decide)⟩))) (fun S5 hP5 h875 => ?_))
  have g5 := g4.puq (ru' := ru) (x' := z) (g' := false) hk hP5 (by decide) (StN.puq g4.2.2.2.2.1 hP5 (Or.inr (Or.inr rfl)))
  obtain ⟨⟨hq5, -, -, -, -, h905, -⟩, ⟨p, hL5⟩, -⟩ := id g5
  have hL5 : LB S5 K la (idsOfL t) p (h9, o9, fi, mk, nn, rp) (B + 6 * cap) := hL5
  have hx5 := hL5.obx
  (repeat (first | (refine BW.pl rfl rfl ?_) | (refine CW.geti rfl rfl (by assumption) rfl rfl (by assumption) (fun _ => ?_)) | (refine CW.getr rfl rfl (by assumption) rfl rfl (by assumption) ?_)))
  first | (refine CW.putr rfl rfl (by assumption) rfl (by decide) (fun S6 hP6 h146 => ?_)) | (refine CW.puti rfl (by assumption) rfl (by decide) (by first | exact Or.inl ⟨rfl, by first | omega | decide | (constructor <;> first | omega | decide)⟩ | exact Or.inr (Or.inl ⟨rfl, by first | omega | decide | (constructor <;> first | omega | decide)⟩) | exact Or.inr (Or.inr (Or.inl ⟨rfl, by first | omega | decide | (constructor <;> first | omega | decide)⟩)) | exact Or.inr (Or.inr (Or.inr ⟨rfl, by first | omega | decide | (constructor <;> first | omega | decide)⟩))) (fun S6 hP6 h146 => ?_))
  have hX6 : XF K (fun _ => False) S5 S6 := XF.rf.pu1 hP6 (by decide)
  have hL6 := hL5.puR (b := false) hP6 h146 rfl
  have g6 := StS.xf (G' := (h9, o9, fi, mk, nn, false)) (B' := B) g5 hk hX6 ⟨p, hL6⟩ rfl (fun _ _ z => z)
  have hn1 : q ≠ K 1 := hk.2.1.1 1 (by decide)
  have w86 : Fe S6 86 q (some (la z.1)) := ((((h861.pu hP2 (Or.inl (by decide))).pu hP3 (Or.inl (by decide))).pu hP4 (Or.inl (by decide))).pu hP5 (Or.inl (by decide))).pu hP6 (Or.inl (by decide))
  have w85 : Fi S6 85 q ((t.length - re.length : Nat) : Int) := (h854.pu hP5 (Or.inl (by decide))).pu hP6 (Or.inl (by decide))
  have w87 : Fi S6 87 q (b2i false) := h875.pu hP6 (Or.inl (by decide))
  refine BW.ret rfl rfl ⟨_, rfl, rfl, ⟨g6.sub (fun z' hz' => ?_), w85, w86, w87⟩, ?_⟩
  · have hz' : z' ∈ pu ++ [z] ++ re := hz'
    simp only [List.mem_append, List.mem_cons, List.not_mem_nil, or_false] at hz' ⊢
    rcases hz' with (y1 | y1) | y1
    · exact Or.inl y1
    · exact Or.inr (Or.inl y1)
    · exact Or.inr (Or.inr y1)
  · exact XS.xf (V := fun _ => False) (((((XS.rf.st (Or.inl rfl) hq (Or.inl rfl) hP1.fr).st (Or.inl rfl) hq1 (Or.inl rfl) hP2.fr).st (Or.inl rfl) hq2 (Or.inl rfl) hP3.fr).st (Or.inl rfl) hq3 (Or.inl rfl) hP4.fr).st (Or.inl rfl) hq4 (Or.inl rfl) hP5.fr) hX6
/-- what is due, put or taken -/
theorem StS.due (h : StS S K la q oq ar pq dq t ((x, g, du, pu, re), G, st, tu, ov, ru) rs cap B) (hk : StK K F q ar pq dq) (hd : Ob S dq (oAd xs cap)) (hF : Fr1 S S' dq 0) (hd' : ∃ xs', Ob S' dq (oAd xs' cap) ∧ StrsIs S' xs' du') : StS S' K la q oq ar pq dq t ((x, g, du', pu, re), G, st, tu, ov, ru) rs cap B := by
  obtain ⟨h1, ⟨p, h2⟩, ⟨mc, h3⟩, -, h6, h7⟩ := h
  have LW : LoW K S (fun k => k = dq) := LoW.one hk.2.1.2.2.2 hd (oNe rfl) rfl
  exact ⟨h1.sT hd hF ⟨oNe rfl, fun _ _ => oNe rfl⟩, ⟨p, h2.fr hF LW h2.tt.2⟩, ⟨mc, h3.fr hF ⟨oNe rfl, h3.ne hd (oNe rfl)⟩⟩, hd', h6.sT h1.1 hd hF (oNe rfl), h7.fr hF LW⟩
theorem StrsIs.tl (h : StrsIs S xs (row :: rows)) : StrsIs S (xs.drop 1) rows := by
  have hl := h.1
  rw [List.length_cons] at hl
  refine ⟨by rw [List.length_drop]; omega, fun j hj => ?_⟩
  have h1 := h.2 (j + 1) (by rw [List.length_cons]; omega)
  have e1 : (xs.drop 1).getD j none = xs.getD (j + 1) none := by rw [List.getD_eq_getElem?_getD, List.getElem?_drop, List.getD_eq_getElem?_getD, Nat.add_comm]
  rw [e1]
  exact h1
/-- what putting the work answers -/
def PwX (S : BS) (K : Nat → Nat) (F : Nat → Prop) (q oq ar pq dq : Nat) (la : Int → Nat) (t : List SLine) (pl : Nat) (n : Int) (o9 : List (List Int)) (st tu : Nat) (ov : Bool) (ru : Nat → Nat → RG) (cap B Bm : Nat) (R : Nat ⊕ (WG × BG)) (rg : GO) (S' : BS) : Prop := match R with
  | .inl w => StR S K F q pq dq la n o9 Bm w rg S'
  | .inr (W1, G1) => rg = .inl none ∧ ∃ la1, StS S' K la1 q oq ar pq dq t (W1, G1, st, tu, ov, ru) (W1.2.2.2.1 ++ W1.2.2.2.2) cap (B + 16 + 30 * (W1.2.2.2.1.length - pl)) ∧ XA K q pq dq S S' ∧ LaE la la1 n ∧ n ≤ G1.2.2.2.2.1 ∧ ∃ ex, G1.2.1 = o9 ++ ex
theorem L_putWork (h : StW S K la q oq ar pq dq t ((x, g, du, pu, re), (h9, o9, fi, mk, nn, rp), st, tu, ov, ru) cap B) (hk : StK K F q ar pq dq) (hw : WS n0 (x, g, du, pu, re) (h9, o9, fi, mk, nn, rp)) (hcp : cap ≤ 24400) (hn : n0 < 1900000) (hBm : B + 149500 ≤ Bm ∧ Bm ≤ 20000000) : BM (d + 6) gk_X13_putWork [aR q] S (PwX S K F q oq ar pq dq la t pu.length nn o9 st tu ov ru cap B Bm (stPutWork (x, g, du, pu, re) (h9, o9, fi, mk, nn, rp))) := by
  obtain ⟨p1, p2, p3, p4, p5⟩ := hw.pun
  have eW : ∀ pu', pu' = (if g = true then pu else pu ++ [x]) → stPutWork (x, g, du, pu, re) (h9, o9, fi, mk, nn, rp) = if g = false ∧ pu.length = 40 then .inl 4 else if 40 < pu'.length + du.length then .inl 4 else .inr ((x, g, [], pu' ++ mkL nn du, re), (h9, o9, fi, mk, nn + (du.length : Nat), rp)) := fun pu' e => by
    subst e
    unfold stPutWork stPuts
    dsimp only
    split
    · rfl
    · by_cases hc : 40 < (if g = true then pu else pu ++ [x]).length + du.length
      · (rw [if_pos hc]; try rfl)
      · (rw [if_neg hc]; try rfl)
  -- what is due
  have drain : ∀ (pu' : List SLine), pu.length ≤ pu'.length → pu'.length ≤ pu.length + 1 → (∀ z ∈ pu', z.1 < nn) → ∀ (du2 du1 : List (List Int)) (S2 : BS) (la2 : Int → Nat), du = du1 ++ du2 → pu'.length + du1.length ≤ 40 → StS S2 K la2 q oq ar pq dq t ((x, g, du2, pu' ++ mkL nn du1, re), (h9, o9, fi, mk, nn + (du1.length : Nat), rp), st, tu, ov, ru) (pu' ++ mkL nn du1 ++ re) cap (B + 16 + 30 * du1.length) → XA K q pq dq S S2 → LaE la la2 nn → BW (d + 5) gm_X13_putWork 7 [some (aR q)] [] S2 (PwX S K F q oq ar pq dq la t pu.length nn o9 st tu ov ru cap B Bm (if 40 < pu'.length + du.length then .inl 4 else .inr ((x, g, [], pu' ++ mkL nn du, re), (h9, o9, fi, mk, nn + (du.length : Nat), rp)))) := by
    intro pu' hp1 hp2 hpi du2
    induction du2 with
    | nil =>
      intro du1 S2 la2 hdu hpl h2 hX2 hE2
      rw [List.append_nil] at hdu
      subst hdu
      rw [if_neg (by omega)]
      obtain ⟨⟨hq2, -, -, -, h822, -⟩, -, -, ⟨xs2, hd2, hds2⟩, -⟩ := id h2
      have hxl := hds2.1
      have hx0 : xs2 = [] := List.length_eq_zero_iff.mp hxl
      (repeat (first | (refine BW.pl rfl rfl ?_) | (refine CW.geti rfl rfl (by assumption) rfl rfl (by assumption) (fun _ => ?_)) | (refine CW.getr rfl rfl (by assumption) rfl rfl (by assumption) ?_)))
      refine CW.e1 rfl rfl (by first | exact Or.inl rfl | exact Or.inr (tagO (by assumption) (by rfl) (by rfl)) | exact Or.inr (tagO (AdrIs.ox (by assumption)) (by rfl) (by rfl)) | exact Or.inr (tagO (PatIs.ox (by assumption)) (by rfl) (by rfl)) | exact Or.inr (tagO (Or0.ox (by assumption)) (by rfl) (by rfl))) (by first | exact Or.inl (by decide) | exact Or.inr ⟨_, rfl, by assumption⟩) rfl (B_adEmp hd2) ?_
      rw [if_pos hx0]
      refine BW.br rfl rfl (by first | omega | decide | (constructor <;> first | omega | decide)) (fun w => ?_) (fun w => by first | (exfalso; omega) | exact absurd w (by decide))
      have hll : (pu' ++ mkL nn du).length = pu'.length + du.length := by rw [List.length_append, mkL_len]
      refine BW.ret rfl rfl ⟨rfl, la2, ?_, hX2, hE2, by show nn ≤ nn + (du.length : Int); omega, [], by simp⟩
      exact StS.le h2 (by show _ ≤ B + 16 + 30 * ((pu' ++ mkL nn du).length - pu.length); rw [hll]; omega) (by show B + 16 + 30 * ((pu' ++ mkL nn du).length - pu.length) + 6 * cap ≤ 20000000; rw [hll]; omega)
    | cons row du2 ih =>
      intro du1 S2 la2 hdu hpl h2 hX2 hE2
      have hdul : du.length = du1.length + du2.length + 1 := by rw [hdu, List.length_append, List.length_cons]; omega
      obtain ⟨⟨hq2, -, -, -, h822, -⟩, -, -, ⟨xs2, hd2, hds2⟩, -⟩ := id h2
      have hds2 : StrsIs S2 xs2 (row :: du2) := hds2
      have hxl := hds2.1
      rw [List.length_cons] at hxl
      have hx0 : ¬ xs2 = [] := fun z => by rw [z] at hxl; cases hxl
      obtain ⟨⟨y, hy1, hy2⟩, hyk⟩ := hds2.2 0 (Nat.succ_pos _)
      have hy2 : Ob S2 y (oStr row) := hy2
      rw [hy1] at hyk
      (repeat (first | (refine BW.pl rfl rfl ?_) | (refine CW.geti rfl rfl (by assumption) rfl rfl (by assumption) (fun _ => ?_)) | (refine CW.getr rfl rfl (by assumption) rfl rfl (by assumption) ?_)))
      refine CW.e1 rfl rfl (by first | exact Or.inl rfl | exact Or.inr (tagO (by assumption) (by rfl) (by rfl)) | exact Or.inr (tagO (AdrIs.ox (by assumption)) (by rfl) (by rfl)) | exact Or.inr (tagO (PatIs.ox (by assumption)) (by rfl) (by rfl)) | exact Or.inr (tagO (Or0.ox (by assumption)) (by rfl) (by rfl))) (by first | exact Or.inl (by decide) | exact Or.inr ⟨_, rfl, by assumption⟩) rfl (B_adEmp hd2) ?_
      rw [if_neg hx0]
      refine BW.br rfl rfl (by first | omega | decide | (constructor <;> first | omega | decide)) (fun w => by first | (exfalso; omega) | exact absurd w (by decide)) (fun w => ?_)
      (repeat (first | (refine BW.pl rfl rfl ?_) | (refine CW.geti rfl rfl (by assumption) rfl rfl (by assumption) (fun _ => ?_)) | (refine CW.getr rfl rfl (by assumption) rfl rfl (by assumption) ?_)))
      refine CW.c1 rfl rfl (by first | exact Or.inl rfl | exact Or.inr (tagO (by assumption) (by rfl) (by rfl)) | exact Or.inr (tagO (AdrIs.ox (by assumption)) (by rfl) (by rfl)) | exact Or.inr (tagO (PatIs.ox (by assumption)) (by rfl) (by rfl)) | exact Or.inr (tagO (Or0.ox (by assumption)) (by rfl) (by rfl))) (by first | exact Or.inl (by decide) | exact Or.inr ⟨_, rfl, by assumption⟩) rfl (C_adRF (d := d + 2) hd2 (by omega)) ?_
      rintro r S3 ⟨rfl, hd3, hF3⟩
      rw [hy1]
      have hy3 := hy2.fr hF3 ⟨oNe rfl, hy2.ne hd2 (oNe rfl)⟩
      have h3 := h2.due (du' := du2) hk hd2 hF3 ⟨_, hd3, hds2.tl.fr hF3 (NoS.one hd2 rfl)⟩
      have hX3 : XA K q pq dq S S3 := XA.due hX2 hd2 hF3
      have hq3 := h3.1.1
      refine CW.castS rfl hy3 rfl rfl rfl ?_
      have hll : (pu' ++ mkL nn du1).length = pu'.length + du1.length := by rw [List.length_append, mkL_len]
      have hpj2 : ∀ z ∈ pu' ++ mkL nn du1, z.1 < nn + (du1.length : Nat) := fun z hz => by
        rcases List.mem_append.mp hz with hz | hz
        · have := hpi z hz; omega
        · exact (mem_mkL du1 nn z hz).1.2
      refine CW.x2 rfl rfl (by first | exact Or.inl rfl | exact Or.inr (tagO (by assumption) (by rfl) (by rfl)) | exact Or.inr (tagO (AdrIs.ox (by assumption)) (by rfl) (by rfl)) | exact Or.inr (tagO (PatIs.ox (by assumption)) (by rfl) (by rfl)) | exact Or.inr (tagO (Or0.ox (by assumption)) (by rfl) (by rfl))) (by first | exact Or.inl (by decide) | exact Or.inr ⟨_, rfl, by assumption⟩) rfl rfl (L_putRow (d := d) h3 hk hy3 hyk (by omega) hpj2 (by omega) (by omega)) ?_ ?_
      · intro r S4 h4
        rw [hll] at h4
        by_cases z40 : pu'.length + du1.length = 40
        · rw [if_pos z40] at h4
          obtain ⟨q9, e9, _⟩ := h4
          cases e9
        · rw [if_neg z40] at h4
          obtain ⟨e4, la4, g4, hX4, hE4, -⟩ := h4
          cases e4
          have el : (du1 ++ [row]).length = du1.length + 1 := by simp
          have em : mkL nn (du1 ++ [row]) = mkL nn du1 ++ [(nn + (du1.length : Nat), row)] := mkL_app _ _ _
          have ep : pu' ++ mkL nn (du1 ++ [row]) = pu' ++ mkL nn du1 ++ [(nn + (du1.length : Nat), row)] := by rw [em, List.append_assoc]
          have en : nn + ((du1.length + 1 : Nat) : Int) = nn + (du1.length : Nat) + 1 := by omega
          (iterate 1 (refine BW.pl rfl rfl ?_))
          refine ih (du1 ++ [row]) S4 la4 (by rw [hdu, List.append_assoc]; rfl) (by omega) ?_ (hX3.tr hX4) (hE2.tr hE4 (by omega))
          rw [ep, el, en]
          refine StS.sub (StS.le g4 (by omega) (by omega)) (fun z hz => ?_)
          simp only [List.mem_append] at hz ⊢
          rcases hz with ((z1 | z1) | z1) | z1
          · exact Or.inl (Or.inl (Or.inl z1))
          · exact Or.inl (Or.inl (Or.inr z1))
          · exact Or.inr z1
          · exact Or.inl (Or.inr z1)
      · intro E q9 S4 h4
        rw [hll] at h4
        by_cases z40 : pu'.length + du1.length = 40
        · rw [if_pos z40] at h4
          rw [if_pos (by omega)]
          exact h3.stR hX3.up hE2 (by show nn ≤ nn + (du1.length : Nat); omega) ⟨[], by simp⟩ (by omega) hBm.2 h4
        · rw [if_neg z40] at h4
          cases h4.1
  obtain ⟨⟨⟨hq, h79, h80, h81, h82, h90, har⟩, ⟨p, hL⟩, hp, hd, hN, hR⟩, h85, h86, h87⟩ := id h
  have h86 : Fe S 86 q (some (la x.1)) := h86
  have h87 : Fi S 87 q (b2i g) := h87
  refine BM.of rfl rfl rfl ?_
  cases g with
  | true =>
    rw [eW pu rfl, if_neg (fun z => absurd z.1 (by decide))]
    replace h87 : Fi S 87 q 1 := h87
    (repeat (first | (refine BW.pl rfl rfl ?_) | (refine CW.geti rfl rfl (by assumption) rfl rfl (by assumption) (fun _ => ?_)) | (refine CW.getr rfl rfl (by assumption) rfl rfl (by assumption) ?_)))
    refine BW.br rfl rfl (by first | omega | decide | (constructor <;> first | omega | decide)) (fun w => ?_) (fun w => by first | (exfalso; omega) | exact absurd w (by decide))
    refine drain pu (Nat.le_refl _) (Nat.le_succ _) p1 du [] S la rfl (by simpa using p4) ?_ XS.rf LaE.rf
    have e0 : mkL nn [] = [] := rfl
    rw [e0, List.append_nil, List.length_nil, show nn + ((0 : Nat) : Int) = nn by omega]
    exact StS.le (StS.sub h.1 (fun z hz => by show z ∈ pu ++ [] ++ re; simpa using hz)) (by omega) (by omega)
  | false =>
    rw [eW (pu ++ [x]) rfl]
    replace h87 : Fi S 87 q 0 := h87
    obtain ⟨hxR, hxo, -⟩ := h.wrow
    have hp1 : (pu ++ [x]).length = pu.length + 1 := by simp
    (repeat (first | (refine BW.pl rfl rfl ?_) | (refine CW.geti rfl rfl (by assumption) rfl rfl (by assumption) (fun _ => ?_)) | (refine CW.getr rfl rfl (by assumption) rfl rfl (by assumption) ?_)))
    refine BW.br rfl rfl (by first | omega | decide | (constructor <;> first | omega | decide)) (fun w => by first | (exfalso; omega) | exact absurd w (by decide)) (fun w => ?_)
    (repeat (first | (refine BW.pl rfl rfl ?_) | (refine CW.geti rfl rfl (by assumption) rfl rfl (by assumption) (fun _ => ?_)) | (refine CW.getr rfl rfl (by assumption) rfl rfl (by assumption) ?_)))
    refine CW.x2 rfl rfl (by first | exact Or.inl rfl | exact Or.inr (tagO (by assumption) (by rfl) (by rfl)) | exact Or.inr (tagO (AdrIs.ox (by assumption)) (by rfl) (by rfl)) | exact Or.inr (tagO (PatIs.ox (by assumption)) (by rfl) (by rfl)) | exact Or.inr (tagO (Or0.ox (by assumption)) (by rfl) (by rfl))) (by first | exact Or.inl (by decide) | exact Or.inr ⟨_, rfl, by assumption⟩) rfl rfl (L_putLine (d := d) (z := x) h.1 hk hxo p4 (by omega)) ?_ ?_
    · intro r S2 h2
      by_cases z40 : pu.length = 40
      · rw [if_pos z40] at h2
        obtain ⟨q9, e9, _⟩ := h2
        cases e9
      · rw [if_neg z40] at h2
        obtain ⟨e2, h2, hX2, -⟩ := h2
        cases e2
        rw [if_neg (fun z => z40 z.2)]
        refine drain (pu ++ [x]) (by omega) (by omega) (fun z hz => ?_) du [] S2 la rfl (by simp; omega) ?_ hX2 LaE.rf
        · rcases List.mem_append.mp hz with hz | hz
          · exact p1 z hz
          · rw [List.mem_singleton.mp hz]; exact p2 rfl
        · have e0 : mkL nn [] = [] := rfl
          rw [e0, List.append_nil, List.length_nil, show nn + ((0 : Nat) : Int) = nn by omega]
          exact StS.le (StS.sub h2 (fun z hz => by show z ∈ pu ++ [x] ++ re; simpa using hz)) (by omega) (by omega)
    · intro E q9 S2 h2
      by_cases z40 : pu.length = 40
      · rw [if_pos z40] at h2
        rw [if_pos ⟨rfl, z40⟩]
        exact h.stR XS.rf (by omega) hBm.2 h2
      · rw [if_neg z40] at h2
        cases h2.1
theorem L_putRest (h : StS S K la q oq ar pq dq t ((x, g, du, pu, re), (h9, o9, fi, mk, nn, rp), st, tu, ov, ru) (pu ++ re) cap B) (hk : StK K F q ar pq dq) (h40 : t.length ≤ 40) (hpl : pu.length ≤ 40) (hcp : cap ≤ 24400) (hBm : B + 149500 ≤ Bm ∧ Bm ≤ 20000000) : BM (d + 6) gk_X13_putRest [aR q] S (fun rg S' => if 40 < pu.length + re.length then StR S K F q pq dq la nn o9 Bm 4 rg S' else rg = .inl none ∧ StS S' K la q oq ar pq dq t ((x, g, du, pu ++ re, []), (h9, o9, fi, mk, nn, rp), st, tu, true, ru) (pu ++ re) cap (B + 700) ∧ XA K q pq dq S S') := by
  have hre40 : re.length ≤ 40 := Nat.le_trans h.2.2.2.2.1.2.2 h40
  have hal : (lsOf la (idsOfL t)).length = t.length := by rw [lsOf_len, ids_len]
  refine BM.of rfl rfl rfl ?_
  have loop : ∀ (re2 re1 : List SLine) (S2 : BS), re = re1 ++ re2 → pu.length + re1.length ≤ 40 → StS S2 K la q oq ar pq dq t ((x, g, du, pu ++ re1, re2), (h9, o9, fi, mk, nn, rp), st, tu, ov, ru) (pu ++ re) cap (B + 16 * re1.length) → XA K q pq dq S S2 → BW (d + 5) gm_X13_putRest 0 [some (aR q)] [] S2 (fun rg S' => if 40 < pu.length + re.length then StR S K F q pq dq la nn o9 Bm 4 rg S' else rg = .inl none ∧ StS S' K la q oq ar pq dq t ((x, g, du, pu ++ re, []), (h9, o9, fi, mk, nn, rp), st, tu, true, ru) (pu ++ re) cap (B + 700) ∧ XA K q pq dq S S') := by
    intro re2
    induction re2 with
    | nil =>
      intro re1 S2 hre hl h2 hX2
      rw [List.append_nil] at hre
      subst hre
      obtain ⟨hq2, -, h802, -, -, -, har2⟩ := id h2.1
      have hN : StN S2 q t [] st tu ov := h2.2.2.2.2.1
      have h83 : Fi S2 83 q ((t.length - 0 : Nat) : Int) := hN.1.1
      (repeat (first | (refine BW.pl rfl rfl ?_) | (refine CW.geti rfl rfl (by assumption) rfl rfl (by assumption) (fun _ => ?_)) | (refine CW.getr rfl rfl (by assumption) rfl rfl (by assumption) ?_)))
      refine CW.alenR rfl har2 (fun _ => ?_)
      rw [hal]
      refine BW.br rfl rfl (by first | omega | decide | (constructor <;> first | omega | decide)) (fun w => ?_) (fun w => by first | (exfalso; omega) | exact absurd w (by decide))
      (repeat (refine BW.pl rfl rfl ?_))
      first | (refine CW.putr rfl rfl (by assumption) rfl (by decide) (fun S3 hP3 h883 => ?_)) | (refine CW.puti rfl (by assumption) rfl (by decide) (by first | exact Or.inl ⟨rfl, by first | omega | decide | (constructor <;> first | omega | decide)⟩ | exact Or.inr (Or.inl ⟨rfl, by first | omega | decide | (constructor <;> first | omega | decide)⟩) | exact Or.inr (Or.inr (Or.inl ⟨rfl, by first | omega | decide | (constructor <;> first | omega | decide)⟩)) | exact Or.inr (Or.inr (Or.inr ⟨rfl, by first | omega | decide | (constructor <;> first | omega | decide)⟩))) (fun S3 hP3 h883 => ?_))
      have g3 := h2.puq (ru' := ru) (x' := x) (g' := g) hk hP3 (by decide) (hN.ovr hP3 h883)
      refine BW.ret rfl rfl ?_
      rw [if_neg (by omega)]
      exact ⟨rfl, g3.le (by omega) (by omega), hX2.st (Or.inl rfl) hq2 (Or.inl rfl) hP3.fr⟩
    | cons z re2 ih =>
      intro re1 S2 hre hl h2 hX2
      have hrl : re.length = re1.length + re2.length + 1 := by rw [hre, List.length_append, List.length_cons]; omega
      obtain ⟨hq2, -, h802, -, -, -, har2⟩ := id h2.1
      have hN : StN S2 q t (z :: re2) st tu ov := h2.2.2.2.2.1
      have h83 : Fi S2 83 q ((t.length - (z :: re2).length : Nat) : Int) := hN.1.1
      obtain ⟨a1, a2, a3, a4⟩ := ar_at (la := la) hN
      have ejt : (((t.length - (z :: re2).length : Nat) : Int)).toNat = t.length - (z :: re2).length := by omega
      have hzm : z ∈ pu ++ re := by rw [hre]; simp
      obtain ⟨hzR, hzo, -⟩ := h2.2.2.2.2.2 z hzm
      have hll : (pu ++ re1).length = pu.length + re1.length := List.length_append
      (repeat (first | (refine BW.pl rfl rfl ?_) | (refine CW.geti rfl rfl (by assumption) rfl rfl (by assumption) (fun _ => ?_)) | (refine CW.getr rfl rfl (by assumption) rfl rfl (by assumption) ?_)))
      refine CW.alenR rfl har2 (fun _ => ?_)
      rw [hal]
      refine BW.br rfl rfl (by first | omega | decide | (constructor <;> first | omega | decide)) (fun w => by first | (exfalso; omega) | exact absurd w (by decide)) (fun w => ?_)
      (repeat (first | (refine BW.pl rfl rfl ?_) | (refine CW.geti rfl rfl (by assumption) rfl rfl (by assumption) (fun _ => ?_)) | (refine CW.getr rfl rfl (by assumption) rfl rfl (by assumption) ?_)))
      refine CW.aald rfl har2 ⟨by omega, by omega⟩ ?_
      rw [ejt, a2]
      refine CW.x2 rfl rfl (by first | exact Or.inl rfl | exact Or.inr (tagO (by assumption) (by rfl) (by rfl)) | exact Or.inr (tagO (AdrIs.ox (by assumption)) (by rfl) (by rfl)) | exact Or.inr (tagO (PatIs.ox (by assumption)) (by rfl) (by rfl)) | exact Or.inr (tagO (Or0.ox (by assumption)) (by rfl) (by rfl))) (by first | exact Or.inl (by decide) | exact Or.inr ⟨_, rfl, by assumption⟩) rfl rfl (L_putLine (d := d) (z := z) h2 hk hzo (by omega) (by omega)) ?_ ?_
      · intro r S3 h3
        rw [hll] at h3
        by_cases z40 : pu.length + re1.length = 40
        · rw [if_pos z40] at h3
          obtain ⟨q9, e9, _⟩ := h3
          cases e9
        · rw [if_neg z40] at h3
          obtain ⟨e3, h3, hX3, hF3⟩ := h3
          cases e3
          have hq3 := h3.1.1
          have hN3 : StN S3 q t (z :: re2) st tu ov := h3.2.2.2.2.1
          have h833 : Fi S3 83 q ((t.length - (z :: re2).length : Nat) : Int) := hN3.1.1
          (repeat (first | (refine BW.pl rfl rfl ?_) | (refine CW.geti rfl rfl (by assumption) rfl rfl (by assumption) (fun _ => ?_)) | (refine CW.getr rfl rfl (by assumption) rfl rfl (by assumption) ?_)))
          first | (refine CW.putr rfl rfl (by assumption) rfl (by decide) (fun S4 hP4 h834 => ?_)) | (refine CW.puti rfl (by assumption) rfl (by decide) (by first | exact Or.inl ⟨rfl, by first | omega | decide | (constructor <;> first | omega | decide)⟩ | exact Or.inr (Or.inl ⟨rfl, by first | omega | decide | (constructor <;> first | omega | decide)⟩) | exact Or.inr (Or.inr (Or.inl ⟨rfl, by first | omega | decide | (constructor <;> first | omega | decide)⟩)) | exact Or.inr (Or.inr (Or.inr ⟨rfl, by first | omega | decide | (constructor <;> first | omega | decide)⟩))) (fun S4 hP4 h834 => ?_))
          have g4 := h3.puq (ru' := ru) (x' := x) (g' := g) hk hP4 (by decide) (hN3.tak hP4 h834 rfl)
          have el : (re1 ++ [z]).length = re1.length + 1 := by simp
          have ep : pu ++ (re1 ++ [z]) = pu ++ re1 ++ [z] := (List.append_assoc _ _ _).symm
          (iterate 1 (refine BW.pl rfl rfl ?_))
          refine ih (re1 ++ [z]) S4 (by rw [hre, List.append_assoc]; rfl) (by omega) ?_ ((hX2.tr hX3).st (Or.inl rfl) hq3 (Or.inl rfl) hP4.fr)
          rw [ep, el]
          exact StS.le g4 (by omega) (by omega)
      · intro E q9 S3 h3
        rw [hll] at h3
        by_cases z40 : pu.length + re1.length = 40
        · rw [if_pos z40] at h3
          rw [if_pos (by omega)]
          exact h2.stR hX2.up LaE.rf (Int.le_refl _) ⟨[], by simp⟩ (by omega) hBm.2 h3
        · rw [if_neg z40] at h3
          cases h3.1
  refine loop re [] S rfl (by simpa using hpl) ?_ XS.rf
  rw [List.append_nil]
  exact h
end PW
