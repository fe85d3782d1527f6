-- C
set_option maxRecDepth 100000
/-! THE READER: patterns -/
def patR (e : Int) (l : List Int) : PR (Nat × SPat) := match pPat e l with
  | .inl f => .inl f
  | .inr (l1, c, pt) => if e = 0 then (if l1 = [] then .inr (l1, c, pt) else .inl l1) else if hd l1 = e then .inr (l1.tail, c, pt) else .inl l1
section PA
variable {d i a n q x b m c cap cap' c0 c1 st0 st1 cf : Nat} {b1 : Int} {M : GMeth} {ls : GL} {st : List GV} {xs xs' : List (Option Nat)} {ps qs : List SPart} {p : SPart} {s l l1 f acc : List Int} {S S0 S1 S' : BS} {F : Nat → Prop} {Q : GO → BS → Prop} {y : Option Nat} {o : Obj} {R : PR (Nat × Nat × List SPart)} {r : GO}
theorem pPat_is {e : Int} {l0 : List Int} {fst : Bool} (h1 : fst = decide (hd l = 94)) (h2 : l0 = if fst = true then l.tail else l) : pPat e l = match pItems e 12 0 0 [] l0 with
    | .inl f => .inl f
    | .inr (l1, c, ps) => if ps = [] ∧ fst = false ∧ decide (hd l1 = 36) = false then .inl (if decide (hd l1 = 36) = true then l1.tail else l1) else .inr (if decide (hd l1 = 36) = true then l1.tail else l1, c, ps, fst, decide (hd l1 = 36)) := by
  subst h1
  unfold pPat
  dsimp only
  rw [← h2]
  cases pItems e 12 0 0 [] l0 <;> rfl
theorem patR_nil {e : Int} {l0 : List Int} {fst : Bool} {acc : List SPart} (h1 : fst = decide (hd l = 94)) (h2 : l0 = if fst = true then l.tail else l) (h : pItems e 12 0 0 [] l0 = .inr ([], c, acc)) (he : e ≠ 0) : patR e l = .inl [] := by
  unfold patR
  rw [pPat_is h1 h2, h]
  dsimp only
  rw [decide_eq_false (show ¬ hd [] = 36 from fun z => by cases z)]
  by_cases z : acc = [] ∧ fst = false ∧ false = false
  · rw [if_pos z]; rfl
  · rw [if_neg z]
    dsimp only
    rw [if_neg he]
    exact if_neg (fun z => he z.symm)
theorem RdAt.mem (h : RdAt S n s l) {x : Int} (hx : x ∈ l) : x ∈ s := by
  obtain ⟨_, _, _, _, k, _, _, e⟩ := h
  exact List.mem_of_mem_drop (by rw [e]; exact hx)
theorem hd_mem (h : l ≠ []) : hd l ∈ l := by
  cases l with
  | nil => exact absurd rfl h
  | cons x l => exact List.mem_cons_self
theorem C_pattern {e : Int} (h : RdAt S n s l) (h32 : ∀ x ∈ s, 32 ≤ x) (he : e = 0 ∨ (36 < e ∧ e < 64)) (hl : l.length ≤ 200) (hT : S.2.2.2 < 700000000) : BM (d + 12) gk_X3_pattern [aR n, aI (if e = 0 then -1 else e)] S (RdY n 300 s l S (fun m => m = n) (patR e l) (fun v w S' => ∃ p, w = vR (some p) ∧ PatIs S' (Nu S) p v.2 ∧ Fi S' 77 n v.1)) := by
  have hn := h.ob
  have hAt := h.at
  have hR := h.R
  have hnS : Ob S n (oOwn 10) := hn
  have hA := Fr.rf (S := S) (W := fun m => m = n)
  obtain ⟨e', he'⟩ : ∃ e' : Int, e' = if e = 0 then -1 else e := ⟨_, rfl⟩
  rw [← he']
  have hee : (e = 0 ∧ e' = -1) ∨ (36 < e ∧ e < 64 ∧ e' = e) := by
    rcases he with z | z
    · left; rw [if_pos z] at he'; exact ⟨z, he'⟩
    · right; rw [if_neg (by omega)] at he'; exact ⟨z.1, z.2, he'⟩
  refine BM.of rfl rfl rfl ?_
  refine CW.newO (L := 8) (c := 9) rfl rfl rfl rfl (fun p S1 hN => ?_)
  have hpz := hA.nil hN.nil
  replace h := h.fr hN.fr ⟨NoS.no, Sep.no⟩
  replace hn := hn.fr hN.fr ⟨oNe rfl, Sep.no⟩
  replace hA := hA.nw hN
  have hp := hN.ob
  have hpk := hN.1
  (repeat (refine BW.pl rfl rfl ?_))
  refine CW.c1 rfl rfl (by first | exact Or.inl rfl | exact Or.inr (tagO (by assumption) (by rfl) (by rfl))) (by first | exact Or.inl (by decide) | exact Or.inr ⟨_, rfl, by assumption⟩) rfl (C_patNew (d := d + 7) hp hpk) ?_
  rintro r S2 ⟨rfl, q, u, w, ⟨hqz, huz, hwz, huw⟩, hF2, hp2, hq, hu, hw, hpq, hpu, hpw, hpi⟩
  have hqz := hA.nil hqz
  have huz := hA.nil huz
  have hwz := hA.nil hwz
  have hp67 : Fi S2 67 p 0 := (hpi 67).trans (hN.2.2.2.2 67 (by decide)).1
  have hp68 : Fi S2 68 p 0 := (hpi 68).trans (hN.2.2.2.2 68 (by decide)).1
  replace h := h.fr hF2 ⟨(NoS.one hp rfl), (Sep.ne (hn.ne hp (ownNe rfl)))⟩
  replace hn := hn.fr hF2 ⟨oNe rfl, (Sep.ne (hn.ne hp (ownNe rfl)))⟩
  replace hA := hA.f1 hF2 (fun z => absurd hpz z)
  have hp := hp2
  have h75 := h.fi
  (repeat (refine BW.pl rfl rfl ?_))
  first | (refine CW.putr rfl rfl (by assumption) rfl (by decide) (fun S3 hP3 h76 => ?_)) | (refine CW.puti rfl (by assumption) rfl (by decide) (by first | exact Or.inl ⟨rfl, by first | omega | decide | (constructor <;> first | omega | decide)⟩ | exact Or.inr (Or.inl ⟨rfl, by first | omega | decide | (constructor <;> first | omega | decide)⟩) | exact Or.inr (Or.inr (Or.inl ⟨rfl, by first | omega | decide | (constructor <;> first | omega | decide)⟩)) | exact Or.inr (Or.inr (Or.inr ⟨rfl, by first | omega | decide | (constructor <;> first | omega | decide)⟩))) (fun S3 hP3 h76 => ?_))
  replace h := h.pu hP3 (Or.inl ⟨Nat.ne_of_beq_eq_false rfl, Nat.ne_of_beq_eq_false rfl⟩)
  replace hpq := hpq.pu hP3 (Or.inl (Nat.ne_of_beq_eq_false rfl))
  replace hpu := hpu.pu hP3 (Or.inl (Nat.ne_of_beq_eq_false rfl))
  replace hpw := hpw.pu hP3 (Or.inl (Nat.ne_of_beq_eq_false rfl))
  replace hp67 := hp67.pu hP3 (Or.inl (Nat.ne_of_beq_eq_false rfl))
  replace hp68 := hp68.pu hP3 (Or.inl (Nat.ne_of_beq_eq_false rfl))
  replace h75 := h75.pu hP3 (Or.inl (Nat.ne_of_beq_eq_false rfl))
  replace hn := hn.pu hP3 trivial
  replace hp := hp.pu hP3 trivial
  replace hq := hq.pu hP3 trivial
  replace hu := hu.pu hP3 trivial
  replace hw := hw.pu hP3 trivial
  replace hA := hA.f1 hP3.fr (fun _ => rfl)
  (repeat (refine BW.pl rfl rfl ?_))
  first | (refine CW.putr rfl rfl (by assumption) rfl (by decide) (fun S4 hP4 h77 => ?_)) | (refine CW.puti rfl (by assumption) rfl (by decide) (by first | exact Or.inl ⟨rfl, by first | omega | decide | (constructor <;> first | omega | decide)⟩ | exact Or.inr (Or.inl ⟨rfl, by first | omega | decide | (constructor <;> first | omega | decide)⟩) | exact Or.inr (Or.inr (Or.inl ⟨rfl, by first | omega | decide | (constructor <;> first | omega | decide)⟩)) | exact Or.inr (Or.inr (Or.inr ⟨rfl, by first | omega | decide | (constructor <;> first | omega | decide)⟩))) (fun S4 hP4 h77 => ?_))
  replace h := h.pu hP4 (Or.inl ⟨Nat.ne_of_beq_eq_false rfl, Nat.ne_of_beq_eq_false rfl⟩)
  replace hpq := hpq.pu hP4 (Or.inl (Nat.ne_of_beq_eq_false rfl))
  replace hpu := hpu.pu hP4 (Or.inl (Nat.ne_of_beq_eq_false rfl))
  replace hpw := hpw.pu hP4 (Or.inl (Nat.ne_of_beq_eq_false rfl))
  replace hp67 := hp67.pu hP4 (Or.inl (Nat.ne_of_beq_eq_false rfl))
  replace hp68 := hp68.pu hP4 (Or.inl (Nat.ne_of_beq_eq_false rfl))
  replace h75 := h75.pu hP4 (Or.inl (Nat.ne_of_beq_eq_false rfl))
  replace h76 := h76.pu hP4 (Or.inl (Nat.ne_of_beq_eq_false rfl))
  replace hn := hn.pu hP4 trivial
  replace hp := hp.pu hP4 trivial
  replace hq := hq.pu hP4 trivial
  replace hu := hu.pu hP4 trivial
  replace hw := hw.pu hP4 trivial
  replace hA := hA.f1 hP4.fr (fun _ => rfl)
  (repeat (first | (refine BW.pl rfl rfl ?_) | (refine CW.geti rfl rfl (by assumption) rfl rfl (by assumption) (fun _ => ?_)) | (refine CW.getr rfl rfl (by assumption) rfl rfl (by assumption) ?_)))
  refine CW.c2 rfl rfl (by first | exact Or.inl rfl | exact Or.inr (tagO (by assumption) (by rfl) (by rfl))) (by first | exact Or.inl (by decide) | exact Or.inr ⟨_, rfl, by assumption⟩) rfl (C_passes (d := d + 5) h ⟨by decide, by decide⟩) ?_
  rintro r S5 ⟨hh5, hP5⟩
  replace hpq := hpq.pu hP5 (Or.inl (Nat.ne_of_beq_eq_false rfl))
  replace hpu := hpu.pu hP5 (Or.inl (Nat.ne_of_beq_eq_false rfl))
  replace hpw := hpw.pu hP5 (Or.inl (Nat.ne_of_beq_eq_false rfl))
  replace hp67 := hp67.pu hP5 (Or.inl (Nat.ne_of_beq_eq_false rfl))
  replace hp68 := hp68.pu hP5 (Or.inl (Nat.ne_of_beq_eq_false rfl))
  replace h76 := h76.pu hP5 (Or.inl (Nat.ne_of_beq_eq_false rfl))
  replace h77 := h77.pu hP5 (Or.inl (Nat.ne_of_beq_eq_false rfl))
  replace hn := hn.pu hP5 trivial
  replace hp := hp.pu hP5 trivial
  replace hq := hq.pu hP5 trivial
  replace hu := hu.pu hP5 trivial
  replace hw := hw.pu hP5 trivial
  replace hA := hA.f1 hP5.fr (fun _ => rfl)
  obtain ⟨fs, l0, hfs, rfl, h5⟩ : ∃ fs l0, (fs, l0) = (decide (hd l = 94), if decide (hd l = 94) = true then l.tail else l) ∧ r = vI (b2i fs) ∧ RdAt S5 n s l0 := by
    rcases hh5 with ⟨z4, rfl, h3⟩ | ⟨z4, rfl, h3⟩
    · exact ⟨true, l.tail, by rw [decide_eq_true z4]; rfl, rfl, h3⟩
    · exact ⟨false, l, by rw [decide_eq_false z4]; rfl, rfl, h3⟩
  have hfs1 : fs = decide (hd l = 94) := congrArg Prod.fst hfs
  have hfs2 : l0 = if fs = true then l.tail else l := by rw [hfs1]; exact congrArg Prod.snd hfs
  have hfs3 : (fs = true ∧ l0.length + 1 = l.length) ∨ (fs = false ∧ l0.length = l.length) := by
    cases fs with
    | true =>
      left
      obtain ⟨l', rfl⟩ := hd_cons (of_decide_eq_true hfs1.symm) (by decide)
      exact ⟨rfl, by rw [hfs2]; rfl⟩
    | false => right; exact ⟨rfl, by rw [hfs2]; rfl⟩
  (repeat (refine BW.pl rfl rfl ?_))
  have hb2 : b2i fs = 0 ∨ b2i fs = 1 := by unfold b2i; split <;> simp
  first | (refine CW.putr rfl rfl (by assumption) rfl (by decide) (fun S6 hP6 hp67 => ?_)) | (refine CW.puti rfl (by assumption) rfl (by decide) (by first | exact Or.inl ⟨rfl, by first | omega | decide | (constructor <;> first | omega | decide)⟩ | exact Or.inr (Or.inl ⟨rfl, by first | omega | decide | (constructor <;> first | omega | decide)⟩) | exact Or.inr (Or.inr (Or.inl ⟨rfl, by first | omega | decide | (constructor <;> first | omega | decide)⟩)) | exact Or.inr (Or.inr (Or.inr ⟨rfl, by first | omega | decide | (constructor <;> first | omega | decide)⟩))) (fun S6 hP6 hp67 => ?_))
  replace hpq := hpq.pu hP6 (Or.inl (Nat.ne_of_beq_eq_false rfl))
  replace hpu := hpu.pu hP6 (Or.inl (Nat.ne_of_beq_eq_false rfl))
  replace hpw := hpw.pu hP6 (Or.inl (Nat.ne_of_beq_eq_false rfl))
  replace hp68 := hp68.pu hP6 (Or.inl (Nat.ne_of_beq_eq_false rfl))
  replace h76 := h76.pu hP6 (Or.inl (Nat.ne_of_beq_eq_false rfl))
  replace h77 := h77.pu hP6 (Or.inl (Nat.ne_of_beq_eq_false rfl))
  replace h5 := h5.pu hP6 (Or.inl ⟨Nat.ne_of_beq_eq_false rfl, Nat.ne_of_beq_eq_false rfl⟩)
  replace hn := hn.pu hP6 trivial
  replace hp := hp.pu hP6 trivial
  replace hq := hq.pu hP6 trivial
  replace hu := hu.pu hP6 trivial
  replace hw := hw.pu hP6 trivial
  replace hA := hA.f1 hP6.fr (fun z => absurd hpz z)
  (iterate 2 (refine BW.pl rfl rfl ?_))
  have hAc := hA
  have pp := pPat_is (e := e) hfs1 hfs2
  -- what is new behind here
  have hNF : ∀ S', (∃ W c, Fr S6 S' W c) → ∀ m, S'.1 m = oNil → Nu S6 m := fun S' ⟨W, c, z⟩ m hm => z.nil hm
  have hFn : ¬ Nu S6 n := Nu.not hn (oNe rfl)
  have hFq : ¬ Nu S6 q := Nu.not hq (oNe rfl)
  have hFp : ¬ Nu S6 p := Nu.not hp (oNe rfl)
  have hE : PtsE S6 (Nu S6) [] [] := ⟨rfl, fun j hj => absurd hj (Nat.not_lt_zero j)⟩
  have fin : ∀ (l3 : List Int) (ite closed stars : Nat) (acc : List SPart) (S7 : BS) (cap7 c7 : Nat) (xs7 : List (Option Nat)), pItems e 12 0 0 [] l0 = .inr (l3, closed, acc) → RdAt S7 n s l3 → Ob S7 q (oAl xs7 cap7) → PtsE S7 (Nu S6) xs7 acc → Fi S7 77 n closed → Fr S6 S7 (fun m => m = n ∨ m = q) c7 → c7 ≤ 400 * (l0.length - l3.length) + 6 * cap7 → (cap7 ≤ 2 * acc.length + 10) → acc.length ≤ 2 * (l0.length - l3.length) → l3.length ≤ l0.length → (acc = [] → l3.length = l0.length) → BW (d + 11) gm_X3_pattern 72 [some (aR n), some (aI e'), some (aR p), some (aI ((s.length : Int) - l.length)), some (aI ite)] [] S7 (RdY n 300 s l S (fun m => m = n) (patR e l) (fun v w S' => ∃ p, w = vR (some p) ∧ PatIs S' (Nu S) p v.2 ∧ Fi S' 77 n v.1)) := by
    intro l3 ite closed stars acc S7 cap7 c7 xs7 hsp h7 hq7 hE7 h77 hC hc7 hcap7 hac hl3 hac2
    replace hpq := hpq.fr hC ⟨⟨hp.old (oNe rfl), Nat.le_of_ble_eq_true rfl⟩, (Sep.two (Sep.ne (hp.ne hn (ownNe rfl))) (Sep.ne (hp.ne hq (oNe rfl))))⟩
    replace hpu := hpu.fr hC ⟨⟨hp.old (oNe rfl), Nat.le_of_ble_eq_true rfl⟩, (Sep.two (Sep.ne (hp.ne hn (ownNe rfl))) (Sep.ne (hp.ne hq (oNe rfl))))⟩
    replace hpw := hpw.fr hC ⟨⟨hp.old (oNe rfl), Nat.le_of_ble_eq_true rfl⟩, (Sep.two (Sep.ne (hp.ne hn (ownNe rfl))) (Sep.ne (hp.ne hq (oNe rfl))))⟩
    replace hp68 := hp68.fr hC ⟨⟨hp.old (oNe rfl), Nat.le_of_ble_eq_true rfl⟩, (Sep.two (Sep.ne (hp.ne hn (ownNe rfl))) (Sep.ne (hp.ne hq (oNe rfl))))⟩
    replace hp67 := hp67.fr hC ⟨⟨hp.old (oNe rfl), Nat.le_of_ble_eq_true rfl⟩, (Sep.two (Sep.ne (hp.ne hn (ownNe rfl))) (Sep.ne (hp.ne hq (oNe rfl))))⟩
    replace hp := hp.fr hC ⟨oNe rfl, (Sep.two (Sep.ne (hp.ne hn (ownNe rfl))) (Sep.ne (hp.ne hq (oNe rfl))))⟩
    replace hu := hu.fr hC ⟨oNe rfl, (Sep.two (Sep.ne (hu.ne hn (oNe rfl))) (Sep.ne (hu.ne hq (oNe rfl))))⟩
    replace hw := hw.fr hC ⟨oNe rfl, (Sep.two (Sep.ne (hw.ne hn (oNe rfl))) (Sep.ne (hw.ne hq (oNe rfl))))⟩
    replace hA := hA.f2 hC (fun _ => rfl) (fun z => absurd hqz z)
    have hn := h7.ob
    have hA7 := h7.at
    have h75 := h7.fi
    have hEm := hE7.mono (fun m z => hAc.nil z)
    (repeat (refine BW.pl rfl rfl ?_))
    refine CW.c2 rfl rfl (by first | exact Or.inl rfl | exact Or.inr (tagO (by assumption) (by rfl) (by rfl))) (by first | exact Or.inl (by decide) | exact Or.inr ⟨_, rfl, by assumption⟩) rfl (C_passes (d := d + 5) h7 ⟨by decide, by decide⟩) ?_
    rintro r S8 ⟨hh8, hP8⟩
    replace hpq := hpq.pu hP8 (Or.inl (Nat.ne_of_beq_eq_false rfl))
    replace hpu := hpu.pu hP8 (Or.inl (Nat.ne_of_beq_eq_false rfl))
    replace hpw := hpw.pu hP8 (Or.inl (Nat.ne_of_beq_eq_false rfl))
    replace hp68 := hp68.pu hP8 (Or.inl (Nat.ne_of_beq_eq_false rfl))
    replace hp67 := hp67.pu hP8 (Or.inl (Nat.ne_of_beq_eq_false rfl))
    replace h77 := h77.pu hP8 (Or.inl (Nat.ne_of_beq_eq_false rfl))
    replace hE7 := hE7.pu hP8 hFn
    replace hp := hp.pu hP8 trivial
    replace hu := hu.pu hP8 trivial
    replace hw := hw.pu hP8 trivial
    replace hn := hn.pu hP8 trivial
    replace hq7 := hq7.pu hP8 trivial
    replace hA := hA.f1 hP8.fr (fun _ => rfl)
    obtain ⟨lst, l2, hls, rfl, h8⟩ : ∃ lst l2, (lst, l2) = (decide (hd l3 = 36), if decide (hd l3 = 36) = true then l3.tail else l3) ∧ r = vI (b2i lst) ∧ RdAt S8 n s l2 := by
      rcases hh8 with ⟨z4, rfl, h3⟩ | ⟨z4, rfl, h3⟩
      · exact ⟨true, l3.tail, by rw [decide_eq_true z4]; rfl, rfl, h3⟩
      · exact ⟨false, l3, by rw [decide_eq_false z4]; rfl, rfl, h3⟩
    have h75 := h8.fi
    have hA8 := h8.at
    have hls1 : lst = decide (hd l3 = 36) := congrArg Prod.fst hls
    have hls2 : l2 = if lst = true then l3.tail else l3 := by rw [hls1]; exact congrArg Prod.snd hls
    have hls3 : (lst = true ∧ l2.length + 1 = l3.length) ∨ (lst = false ∧ l2.length = l3.length) := by
      cases lst with
      | true =>
        left
        obtain ⟨l', rfl⟩ := hd_cons (of_decide_eq_true hls1.symm) (by decide)
        exact ⟨rfl, by rw [hls2]; rfl⟩
      | false => right; exact ⟨rfl, by rw [hls2]; rfl⟩
    have pp2 : pPat e l = if acc = [] ∧ fs = false ∧ lst = false then .inl l2 else .inr (l2, closed, acc, fs, lst) := by
      rw [pp, hsp]
      dsimp only
      rw [← hls1, ← hls2]
    have hb3 : b2i lst = 0 ∨ b2i lst = 1 := by unfold b2i; split <;> simp
    (repeat (refine BW.pl rfl rfl ?_))
    first | (refine CW.putr rfl rfl (by assumption) rfl (by decide) (fun S9 hP9 hp68 => ?_)) | (refine CW.puti rfl (by assumption) rfl (by decide) (by first | exact Or.inl ⟨rfl, by first | omega | decide | (constructor <;> first | omega | decide)⟩ | exact Or.inr (Or.inl ⟨rfl, by first | omega | decide | (constructor <;> first | omega | decide)⟩) | exact Or.inr (Or.inr (Or.inl ⟨rfl, by first | omega | decide | (constructor <;> first | omega | decide)⟩)) | exact Or.inr (Or.inr (Or.inr ⟨rfl, by first | omega | decide | (constructor <;> first | omega | decide)⟩))) (fun S9 hP9 hp68 => ?_))
    replace hpq := hpq.pu hP9 (Or.inl (Nat.ne_of_beq_eq_false rfl))
    replace hpu := hpu.pu hP9 (Or.inl (Nat.ne_of_beq_eq_false rfl))
    replace hpw := hpw.pu hP9 (Or.inl (Nat.ne_of_beq_eq_false rfl))
    replace hp67 := hp67.pu hP9 (Or.inl (Nat.ne_of_beq_eq_false rfl))
    replace h77 := h77.pu hP9 (Or.inl (Nat.ne_of_beq_eq_false rfl))
    replace hE7 := hE7.pu hP9 hFp
    replace h8 := h8.pu hP9 (Or.inl ⟨Nat.ne_of_beq_eq_false rfl, Nat.ne_of_beq_eq_false rfl⟩)
    replace h75 := h75.pu hP9 (Or.inl (Nat.ne_of_beq_eq_false rfl))
    replace hp := hp.pu hP9 trivial
    replace hu := hu.pu hP9 trivial
    replace hw := hw.pu hP9 trivial
    replace hn := hn.pu hP9 trivial
    replace hq7 := hq7.pu hP9 trivial
    replace hA := hA.f1 hP9.fr (fun z => absurd hpz z)
    have hEm := (hE7.mono (F' := Nu S) (fun m z => hAc.nil z))
    have pt : PatIs S9 (Nu S) p (acc, fs, lst) := ⟨q, cap7, xs7, u, w, [0, 0, 0], [0, 0, 0], ⟨hpz, hqz, huz, hwz, huw⟩, hp, hpq, hq7, hEm, hp67, hp68, hpu, hpw, ⟨hu, rfl⟩, hw, rfl⟩
    (repeat (first | (refine BW.pl rfl rfl ?_) | (refine CW.geti rfl rfl (by assumption) rfl rfl (by assumption) (fun _ => ?_)) | (refine CW.getr rfl rfl (by assumption) rfl rfl (by assumption) ?_)))
    by_cases z : l2.length < l.length
    · refine BW.br rfl rfl (by first | omega | decide | (constructor <;> first | omega | decide)) (fun w2 => by first | (exfalso; omega) | exact absurd w2 (by decide)) (fun w2 => ?_)
      (repeat (refine BW.pl rfl rfl ?_))
      refine BW.must (d := d + 7) rfl rfl (by decide) (by decide) rfl h8 (Or.inr rfl) rfl (fun _ => ?_) (fun q S' w _ => absurd w (by decide))
      have hne : ¬ (acc = [] ∧ fs = false ∧ lst = false) := fun ⟨z1, z2, z3⟩ => by
        have := hac2 z1
        rw [z2] at hfs3; rw [z3] at hls3
        simp at hfs3 hls3
        omega
      rw [if_neg hne] at pp2
      (repeat (refine BW.pl rfl rfl ?_))
      rcases hee with ⟨z1, z2⟩ | ⟨z1, z2, z3⟩
      · refine BW.br rfl rfl (by first | omega | decide | (constructor <;> first | omega | decide)) (fun w3 => by first | (exfalso; omega) | exact absurd w3 (by decide)) (fun w3 => ?_)
        (repeat (refine BW.pl rfl rfl ?_))
        refine CW.e1 rfl rfl (by first | exact Or.inl rfl | exact Or.inr (tagO (by assumption) (by rfl) (by rfl))) (by first | exact Or.inl (by decide) | exact Or.inr ⟨_, rfl, by assumption⟩) rfl (B_over (d := d + 8) h8) ?_
        by_cases z4 : l2 = []
        · rw [if_pos z4]
          refine BW.must (d := d + 7) rfl rfl (by decide) (by decide) rfl h8 (Or.inr rfl) rfl (fun _ => ?_) (fun q S' w _ => absurd w (by decide))
          (repeat (refine BW.pl rfl rfl ?_))
          refine BW.aret rfl rfl (RdY.go (v := (closed, acc, fs, lst)) (l1 := l2) ?_ (by omega) hA (by omega) h8 ⟨p, rfl, pt, h77⟩)
          unfold patR
          rw [pp2]
          dsimp only
          rw [if_pos z1, if_pos z4]
        · rw [if_neg z4]
          refine BW.must (d := d + 7) rfl rfl (by decide) (by decide) rfl h8 (Or.inl rfl) rfl (fun w => absurd w (by decide)) (fun q9 S9 _ hT9 => ?_)
          refine RdY.fl (f := l2) ?_ hA (by omega) hT9
          unfold patR
          rw [pp2]
          dsimp only
          rw [if_pos z1, if_neg z4]
      · refine BW.br rfl rfl (by first | omega | decide | (constructor <;> first | omega | decide)) (fun w3 => ?_) (fun w3 => by first | (exfalso; omega) | exact absurd w3 (by decide))
        (repeat (refine BW.pl rfl rfl ?_))
        refine BW.i2c rfl (by omega) ?_
        refine CW.r2 rfl rfl (by first | exact Or.inl rfl | exact Or.inr (tagO (by assumption) (by rfl) (by rfl))) (by first | exact Or.inl (by decide) | exact Or.inr ⟨_, rfl, by assumption⟩) rfl rfl (C_mustC (d := d + 5) h8 (show 0 < e' ∧ e' < 128 by omega)) ?_ ?_
        · rintro l6 v w6 S10 ⟨e1, e2, hF10, h10, rfl, hP10⟩
          have e3 : hd l2 = e ∧ l6 = l2.tail := by
            split at e1
            · rename_i z9; cases e1; exact ⟨by omega, rfl⟩
            · cases e1
          have pt := pt.fr hP10.fr ⟨NoS.one hn rfl, Av.ne (Nu.not hnS (oNe rfl))⟩
          replace hpq := hpq.pu hP10 (Or.inl (Nat.ne_of_beq_eq_false rfl))
          replace hpu := hpu.pu hP10 (Or.inl (Nat.ne_of_beq_eq_false rfl))
          replace hpw := hpw.pu hP10 (Or.inl (Nat.ne_of_beq_eq_false rfl))
          replace hp67 := hp67.pu hP10 (Or.inl (Nat.ne_of_beq_eq_false rfl))
          replace h77 := h77.pu hP10 (Or.inl (Nat.ne_of_beq_eq_false rfl))
          replace hE7 := hE7.pu hP10 hFn
          replace hp68 := hp68.pu hP10 (Or.inl (Nat.ne_of_beq_eq_false rfl))
          replace hp := hp.pu hP10 trivial
          replace hu := hu.pu hP10 trivial
          replace hw := hw.pu hP10 trivial
          replace hn := hn.pu hP10 trivial
          replace hq7 := hq7.pu hP10 trivial
          replace hA := hA.f1 hP10.fr (fun _ => rfl)
          (repeat (refine BW.pl rfl rfl ?_))
          refine BW.aret rfl rfl (RdY.go (v := (closed, acc, fs, lst)) (l1 := l6) ?_ (by omega) hA (by omega) h10 ⟨p, rfl, pt, h77⟩)
          unfold patR
          rw [pp2]
          dsimp only
          rw [if_neg (by omega), if_pos e3.1, e3.2]
        · rintro f S10 r S' ⟨e1, hF10, hT10⟩
          have e3 : hd l2 ≠ e ∧ f = l2 := by
            split at e1
            · cases e1
            · rename_i z9; cases e1; exact ⟨fun z => z9 (by omega), rfl⟩
          refine RdY.fl (f := l2) ?_ (hA.f1 hF10 (fun _ => rfl)) (by omega) (by rw [← e3.2]; exact hT10)
          unfold patR
          rw [pp2]
          dsimp only
          rw [if_neg (by omega), if_neg e3.1]
    · refine BW.br rfl rfl (by first | omega | decide | (constructor <;> first | omega | decide)) (fun w2 => ?_) (fun w2 => by first | (exfalso; omega) | exact absurd w2 (by decide))
      (repeat (refine BW.pl rfl rfl ?_))
      refine BW.must (d := d + 7) rfl rfl (by decide) (by decide) rfl h8 (Or.inl rfl) rfl (fun w => absurd w (by decide)) (fun q9 S9 _ hT9 => ?_)
      have hnl : acc = [] := List.length_eq_zero_iff.mp (by omega)
      have hcs : acc = [] ∧ fs = false ∧ lst = false := ⟨hnl, by rcases hfs3 with ⟨a, b⟩ | ⟨a, b⟩; omega; exact a, by rcases hls3 with ⟨a, b⟩ | ⟨a, b⟩; omega; exact a⟩
      rw [if_pos hcs] at pp2
      refine RdY.fl (f := l2) ?_ hA (by omega) hT9
      unfold patR
      rw [pp2]
  have loop : ∀ (k ite closed stars : Nat) (acc : List SPart) (l3 : List Int) (S7 : BS) (cap7 c7 : Nat) (xs7 : List (Option Nat)), k + ite = 12 → pItems e 12 0 0 [] l0 = pItems e k closed stars acc l3 → closed ≤ 2 → stars ≤ 2 → RdAt S7 n s l3 → Ob S7 q (oAl xs7 cap7) → PtsE S7 (Nu S6) xs7 acc → Fi S7 76 n stars → Fi S7 77 n closed → Fr S6 S7 (fun m => m = n ∨ m = q) c7 → c7 ≤ 400 * (l0.length - l3.length) + 6 * cap7 → (cap7 ≤ 2 * acc.length + 10) → acc.length ≤ 2 * (l0.length - l3.length) → l3.length ≤ l0.length → (acc = [] → l3.length = l0.length) → BW (d + 11) gm_X3_pattern 20 [some (aR n), some (aI e'), some (aR p), some (aI ((s.length : Int) - l.length)), some (aI ite)] [] S7 (RdY n 300 s l S (fun m => m = n) (patR e l) (fun v w S' => ∃ p, w = vR (some p) ∧ PatIs S' (Nu S) p v.2 ∧ Fi S' 77 n v.1)) := by
    intro k
    have step : ∀ (k ite closed stars : Nat) (acc : List SPart) (l3 : List Int) (S7 : BS) (cap7 c7 : Nat) (xs7 : List (Option Nat)), k + ite = 12 → pItems e 12 0 0 [] l0 = pItems e k closed stars acc l3 → closed ≤ 2 → stars ≤ 2 → RdAt S7 n s l3 → Ob S7 q (oAl xs7 cap7) → PtsE S7 (Nu S6) xs7 acc → Fi S7 76 n stars → Fi S7 77 n closed → Fr S6 S7 (fun m => m = n ∨ m = q) c7 → c7 ≤ 400 * (l0.length - l3.length) + 6 * cap7 → (cap7 ≤ 2 * acc.length + 10) → acc.length ≤ 2 * (l0.length - l3.length) → l3.length ≤ l0.length → (acc = [] → l3.length = l0.length) → (∀ k1 (l6 : List Int) (c6 st6 : Nat) (qs : List SPart) (S8 : BS) (cap8 : Nat) (xs8 : List (Option Nat)), k = k1 + 1 → ¬ (hd l3 = 36 ∨ hd l3 = e ∨ l3 = []) → pItem closed stars l3 = .inr (l6, c6, st6, qs) → l6.length < l3.length → qs.length ≤ 2 * (l3.length - l6.length) → Fr S7 S8 (fun m => m = n ∨ m = q) (400 * (l3.length - l6.length) + 6 * (cap8 - cap7)) → cap7 ≤ cap8 → (cap8 = cap7 ∨ cap8 ≤ 2 * (acc.length + qs.length) + 10) → RdAt S8 n s l6 → Fi S8 76 n st6 → Fi S8 77 n c6 → Ob S8 q (oAl xs8 cap8) → PtsE S8 (Nu S6) xs8 (acc ++ qs) → BW (d + 11) gm_X3_pattern 20 [some (aR n), some (aI e'), some (aR p), some (aI ((s.length : Int) - l.length)), some (aI (ite + 1))] [] S8 (RdY n 300 s l S (fun m => m = n) (patR e l) (fun v w S' => ∃ p, w = vR (some p) ∧ PatIs S' (Nu S) p v.2 ∧ Fi S' 77 n v.1))) → BW (d + 11) gm_X3_pattern 20 [some (aR n), some (aI e'), some (aR p), some (aI ((s.length : Int) - l.length)), some (aI ite)] [] S7 (RdY n 300 s l S (fun m => m = n) (patR e l) (fun v w S' => ∃ p, w = vR (some p) ∧ PatIs S' (Nu S) p v.2 ∧ Fi S' 77 n v.1)) := by
      intro k ite closed stars acc l3 S7 cap7 c7 xs7 hk hsp hcl hst h7 hq7 hE7 h76 h77 hC hc7 hcap7 hac hl3 hac2 next
      replace hpq := hpq.fr hC ⟨⟨hp.old (oNe rfl), Nat.le_of_ble_eq_true rfl⟩, (Sep.two (Sep.ne (hp.ne hn (ownNe rfl))) (Sep.ne (hp.ne hq (oNe rfl))))⟩
      replace hpu := hpu.fr hC ⟨⟨hp.old (oNe rfl), Nat.le_of_ble_eq_true rfl⟩, (Sep.two (Sep.ne (hp.ne hn (ownNe rfl))) (Sep.ne (hp.ne hq (oNe rfl))))⟩
      replace hpw := hpw.fr hC ⟨⟨hp.old (oNe rfl), Nat.le_of_ble_eq_true rfl⟩, (Sep.two (Sep.ne (hp.ne hn (ownNe rfl))) (Sep.ne (hp.ne hq (oNe rfl))))⟩
      replace hp68 := hp68.fr hC ⟨⟨hp.old (oNe rfl), Nat.le_of_ble_eq_true rfl⟩, (Sep.two (Sep.ne (hp.ne hn (ownNe rfl))) (Sep.ne (hp.ne hq (oNe rfl))))⟩
      replace hp67 := hp67.fr hC ⟨⟨hp.old (oNe rfl), Nat.le_of_ble_eq_true rfl⟩, (Sep.two (Sep.ne (hp.ne hn (ownNe rfl))) (Sep.ne (hp.ne hq (oNe rfl))))⟩
      replace hp := hp.fr hC ⟨oNe rfl, (Sep.two (Sep.ne (hp.ne hn (ownNe rfl))) (Sep.ne (hp.ne hq (oNe rfl))))⟩
      replace hu := hu.fr hC ⟨oNe rfl, (Sep.two (Sep.ne (hu.ne hn (oNe rfl))) (Sep.ne (hu.ne hq (oNe rfl))))⟩
      replace hw := hw.fr hC ⟨oNe rfl, (Sep.two (Sep.ne (hw.ne hn (oNe rfl))) (Sep.ne (hw.ne hq (oNe rfl))))⟩
      replace hA := hA.f2 hC (fun _ => rfl) (fun z => absurd hqz z)
      have hn := h7.ob
      have hA7 := h7.at
      have hR7 := h7.R
      have h75 := h7.fi
      have fault : ∀ (f : List Int) (S8 : BS) (c8 : Nat) (r : GO) (S' : BS), l3 ≠ [] → ¬ (hd l3 = 36 ∨ hd l3 = e ∨ l3 = []) → k ≠ 0 → pItem closed stars l3 = .inl f → Fr S S8 (fun m => m = n) c8 → c8 ≤ 600 * l.length + 20300 → Thr9 5 42 ((s.length : Int) - f.length) S8 r S' → RdY n 300 s l S (fun m => m = n) (patR e l) (fun v w S' => ∃ p, w = vR (some p) ∧ PatIs S' (Nu S) p v.2 ∧ Fi S' 77 n v.1) r S' := by
        intro f S8 c8 r S' z0 z1 z2 z3 z4 z5 z6
        obtain ⟨k1, rfl⟩ : ∃ k1, k = k1 + 1 := ⟨k - 1, by omega⟩
        refine RdY.fl (f := f) ?_ z4 (by omega) z6
        unfold patR
        rw [pp, hsp, pItems_f z1 z3]
      (repeat (refine BW.pl rfl rfl ?_))
      refine CW.e1 rfl rfl (by first | exact Or.inl rfl | exact Or.inr (tagO (by assumption) (by rfl) (by rfl))) (by first | exact Or.inl (by decide) | exact Or.inr ⟨_, rfl, by assumption⟩) rfl (B_look (d := d + 6) h7) ?_
      (repeat (refine BW.pl rfl rfl ?_))
      by_cases z1 : lk l3 = 36
      · refine BW.br rfl rfl (by first | omega | decide | (constructor <;> first | omega | decide)) (fun w => ?_) (fun w => by first | (exfalso; omega) | exact absurd w (by decide))
        exact fin l3 ite closed stars acc S7 cap7 c7 xs7 (by rw [hsp]; exact pItems_x (Or.inl ((lk_hd (by decide)).mp z1))) h7 hq7 hE7 h77 hC hc7 hcap7 hac hl3 hac2
      · refine BW.br rfl rfl (by first | omega | decide | (constructor <;> first | omega | decide)) (fun w => by first | (exfalso; omega) | exact absurd w (by decide)) (fun w => ?_)
        have z1h : ¬ hd l3 = 36 := fun z => z1 ((lk_hd (by decide)).mpr z)
        (repeat (refine BW.pl rfl rfl ?_))
        refine CW.e1 rfl rfl (by first | exact Or.inl rfl | exact Or.inr (tagO (by assumption) (by rfl) (by rfl))) (by first | exact Or.inl (by decide) | exact Or.inr ⟨_, rfl, by assumption⟩) rfl (B_look (d := d + 6) h7) ?_
        (repeat (refine BW.pl rfl rfl ?_))
        by_cases z2 : lk l3 = e'
        · refine BW.br rfl rfl (by first | omega | decide | (constructor <;> first | omega | decide)) (fun w2 => ?_) (fun w2 => by first | (exfalso; omega) | exact absurd w2 (by decide))
          refine fin l3 ite closed stars acc S7 cap7 c7 xs7 (by rw [hsp]; refine pItems_x ?_; rcases hee with ⟨a1, a2⟩ | ⟨a1, a2, a3⟩; right; right; cases l3; rfl; exfalso; rename_i y l3; have := h32 y (h7.mem List.mem_cons_self); have z2 : y = e' := z2; omega; right; left; rw [← a3]; exact (lk_hd (by omega)).mp z2) h7 hq7 hE7 h77 hC hc7 hcap7 hac hl3 hac2
        · refine BW.br rfl rfl (by first | omega | decide | (constructor <;> first | omega | decide)) (fun w2 => by first | (exfalso; omega) | exact absurd w2 (by decide)) (fun w2 => ?_)
          have z3 : e = 0 → l3 ≠ [] := fun a b => by
            rw [b] at z2
            rcases hee with ⟨a1, a2⟩ | ⟨a1, a2, a3⟩
            · exact z2 a2.symm
            · omega
          have z4 : l3 ≠ [] → ¬ (hd l3 = 36 ∨ hd l3 = e ∨ l3 = []) := fun a b => by
            rcases b with b | b | b
            · exact z1h b
            · have : 32 ≤ hd l3 := h32 _ (h7.mem (hd_mem a))
              rcases hee with ⟨a1, a2⟩ | ⟨a1, a2, a3⟩
              · omega
              · exact z2 ((lk_hd (by omega)).mpr (by omega))
            · exact a b
          have z5 : l3 = [] → ∀ c9 S8 r S', Fr S S8 (fun m => m = n) c9 → c9 ≤ 600 * l.length + 20300 → Thr9 5 42 ((s.length : Int) - ([] : List Int).length) S8 r S' → RdY n 300 s l S (fun m => m = n) (patR e l) (fun v w S' => ∃ p, w = vR (some p) ∧ PatIs S' (Nu S) p v.2 ∧ Fi S' 77 n v.1) r S' := by
            intro a c9 S8 r S' b1 b2 b3
            have a0 : e ≠ 0 := fun b => z3 b a
            exact RdY.fl (patR_nil hfs1 hfs2 (by rw [hsp, a]; exact pItems_x (Or.inr (Or.inr rfl))) a0) b1 (by omega) b3
          have at34 : BW (d + 11) gm_X3_pattern 34 [some (aR n), some (aI e'), some (aR p), some (aI ((s.length : Int) - l.length)), some (aI ite)] [] S7 (RdY n 300 s l S (fun m => m = n) (patR e l) (fun v w S' => ∃ p, w = vR (some p) ∧ PatIs S' (Nu S) p v.2 ∧ Fi S' 77 n v.1)) := by
            (repeat (refine BW.pl rfl rfl ?_))
            by_cases zk : k = 0
            · refine BW.br rfl rfl (by first | omega | decide | (constructor <;> first | omega | decide)) (fun w3 => ?_) (fun w3 => by first | (exfalso; omega) | exact absurd w3 (by decide))
              (repeat (refine BW.pl rfl rfl ?_))
              refine BW.must (d := d + 7) rfl rfl (by decide) (by decide) rfl h7 (Or.inl rfl) rfl (fun w => absurd w (by decide)) (fun q9 S9 _ hT9 => ?_)
              by_cases zl : l3 = []
              · exact z5 zl _ _ _ _ hA (by omega) (by rw [zl] at hT9; exact hT9)
              · refine RdY.fl (f := l3) ?_ hA (by omega) hT9
                unfold patR
                rw [pp, hsp, zk, pItems_0 (z4 zl)]
            · refine BW.br rfl rfl (by first | omega | decide | (constructor <;> first | omega | decide)) (fun w3 => by first | (exfalso; omega) | exact absurd w3 (by decide)) (fun w3 => ?_)
              (repeat (refine BW.pl rfl rfl ?_))
              refine BW.must (d := d + 7) rfl rfl (by decide) (by decide) rfl h7 (Or.inr rfl) rfl (fun _ => ?_) (fun q S' w _ => absurd w (by decide))
              (repeat (refine BW.pl rfl rfl ?_))
              refine CW.e1 rfl rfl (by first | exact Or.inl rfl | exact Or.inr (tagO (by assumption) (by rfl) (by rfl))) (by first | exact Or.inl (by decide) | exact Or.inr ⟨_, rfl, by assumption⟩) rfl (B_look (d := d + 6) h7) ?_
              (repeat (refine BW.pl rfl rfl ?_))
              have hps : acc.length + 2 * l3.length + 2 ≤ 600 := by omega
              have hNF7 : ∀ m, S7.1 m = oNil → Nu S6 m := fun m hm => hC.nil hm
              have hAu := hA.t
              by_cases y1 : lk l3 = 40
              · obtain ⟨l4, rfl⟩ := lk_cons y1 (by decide)
                refine BW.br rfl rfl (by first | omega | decide | (constructor <;> first | omega | decide)) (fun w4 => by first | (exfalso; omega) | exact absurd w4 (by decide)) (fun w4 => ?_)
                (repeat (refine BW.pl rfl rfl ?_))
                refine CW.pp rfl rfl (by first | exact Or.inl rfl | exact Or.inr (tagO hn rfl rfl)) (Or.inl (by decide)) rfl rfl (C_group (d := d + 1) (x := p) h7 hp hpq hq7 hE7 hNF7 hFn hFq h76 h77 hst hcl (by simp at hps; omega) (by omega)) (fun l6 c6 st6 qs S8 cap8 xs8 e1 e2 e3 hF8 e4 e5 h8 g76 g77 hq8 hE8 => ?_) (fun f S8 r S' e1 hF8 hT8 => ?_)
                · (iterate 1 (refine BW.pl rfl rfl ?_))
                  exact next (k - 1) l6 c6 st6 qs S8 cap8 xs8 (by omega) (z4 (List.cons_ne_nil _ _)) e1 e2 e3 hF8 e4 e5 h8 g76 g77 hq8 hE8
                · exact fault f S8 _ r S' (List.cons_ne_nil _ _) (z4 (List.cons_ne_nil _ _)) zk e1 (hA.f2 hF8 (fun _ => rfl) (fun z => absurd hqz z)) (by have q1 : (40 :: l4).length = l4.length + 1 := rfl; have q2 : (92 :: l4).length = l4.length + 1 := rfl; omega) hT8
              · refine BW.br rfl rfl (by first | omega | decide | (constructor <;> first | omega | decide)) (fun w4 => ?_) (fun w4 => by first | (exfalso; omega) | exact absurd w4 (by decide))
                (repeat (refine BW.pl rfl rfl ?_))
                refine CW.e1 rfl rfl (by first | exact Or.inl rfl | exact Or.inr (tagO (by assumption) (by rfl) (by rfl))) (by first | exact Or.inl (by decide) | exact Or.inr ⟨_, rfl, by assumption⟩) rfl (B_look (d := d + 6) h7) ?_
                (repeat (refine BW.pl rfl rfl ?_))
                have y1h : ¬ hd l3 = 40 := fun z => y1 ((lk_hd (by decide)).mpr z)
                by_cases y2 : lk l3 = 92
                · obtain ⟨l4, rfl⟩ := lk_cons y2 (by decide)
                  refine BW.br rfl rfl (by first | omega | decide | (constructor <;> first | omega | decide)) (fun w5 => by first | (exfalso; omega) | exact absurd w5 (by decide)) (fun w5 => ?_)
                  (repeat (first | (refine BW.pl rfl rfl ?_) | (refine CW.geti rfl rfl (by assumption) rfl rfl (by assumption) (fun _ => ?_)) | (refine CW.getr rfl rfl (by assumption) rfl rfl (by assumption) ?_)))
                  refine CW.newO (L := 4) (c := 8) rfl rfl rfl rfl (fun m S8 hN8 => ?_)
                  have hmz := hA.nil hN8.nil
                  replace hpq := hpq.fr hN8.fr ⟨⟨hp.old (oNe rfl), Nat.le_of_ble_eq_true rfl⟩, Sep.no⟩
                  replace hpu := hpu.fr hN8.fr ⟨⟨hp.old (oNe rfl), Nat.le_of_ble_eq_true rfl⟩, Sep.no⟩
                  replace hpw := hpw.fr hN8.fr ⟨⟨hp.old (oNe rfl), Nat.le_of_ble_eq_true rfl⟩, Sep.no⟩
                  replace hp68 := hp68.fr hN8.fr ⟨⟨hp.old (oNe rfl), Nat.le_of_ble_eq_true rfl⟩, Sep.no⟩
                  replace hp67 := hp67.fr hN8.fr ⟨⟨hp.old (oNe rfl), Nat.le_of_ble_eq_true rfl⟩, Sep.no⟩
                  replace h7 := h7.fr hN8.fr ⟨NoS.no, Sep.no⟩
                  replace h76 := h76.fr hN8.fr ⟨⟨hn.old (oNe rfl), Nat.le_of_ble_eq_true rfl⟩, Sep.no⟩
                  replace h77 := h77.fr hN8.fr ⟨⟨hn.old (oNe rfl), Nat.le_of_ble_eq_true rfl⟩, Sep.no⟩
                  replace h75 := h75.fr hN8.fr ⟨⟨hn.old (oNe rfl), Nat.le_of_ble_eq_true rfl⟩, Sep.no⟩
                  replace hp := hp.fr hN8.fr ⟨oNe rfl, Sep.no⟩
                  replace hu := hu.fr hN8.fr ⟨oNe rfl, Sep.no⟩
                  replace hw := hw.fr hN8.fr ⟨oNe rfl, Sep.no⟩
                  replace hn := hn.fr hN8.fr ⟨oNe rfl, Sep.no⟩
                  replace hq7 := hq7.fr hN8.fr ⟨oNe rfl, Sep.no⟩
                  replace hA := hA.nw hN8
                  have hm := hN8.ob
                  have hmk := hN8.1
                  have hE7 := hE7.new hN8
                  have hGn : ¬ (Nu S6 n ∧ n ≠ m) := fun z => hFn z.1
                  (repeat (refine BW.pl rfl rfl ?_))
                  refine CW.r1 rfl rfl (by first | exact Or.inl rfl | exact Or.inr (tagO (by assumption) (by rfl) (by rfl))) (by first | exact Or.inl (by decide) | exact Or.inr ⟨_, rfl, by assumption⟩) rfl rfl (C_told (d := d + 5) h7 ⟨h77, hcl⟩) ?_ ?_
                  · rintro l6 v w6 S9 ⟨e1, e2, hF9, h9, rfl, hP9⟩
                    have e3 : 0 < closed ∧ (49 ≤ hd l4 ∧ hd l4 ≤ 48 + (closed : Int)) ∧ l6 = l4.tail ∧ v = hd l4 - 48 := by
                      split at e1
                      · rename_i g1
                        split at e1
                        · rename_i g2; cases e1; exact ⟨g1, g2, rfl, rfl⟩
                        · cases e1
                      · cases e1
                    obtain ⟨e3, e4, e5, e6⟩ := e3
                    replace hpq := hpq.pu hP9 (Or.inl (Nat.ne_of_beq_eq_false rfl))
                    replace hpu := hpu.pu hP9 (Or.inl (Nat.ne_of_beq_eq_false rfl))
                    replace hpw := hpw.pu hP9 (Or.inl (Nat.ne_of_beq_eq_false rfl))
                    replace hp68 := hp68.pu hP9 (Or.inl (Nat.ne_of_beq_eq_false rfl))
                    replace hp67 := hp67.pu hP9 (Or.inl (Nat.ne_of_beq_eq_false rfl))
                    replace h76 := h76.pu hP9 (Or.inl (Nat.ne_of_beq_eq_false rfl))
                    replace h77 := h77.pu hP9 (Or.inl (Nat.ne_of_beq_eq_false rfl))
                    replace hE7 := hE7.pu hP9 hGn
                    replace hp := hp.pu hP9 trivial
                    replace hu := hu.pu hP9 trivial
                    replace hw := hw.pu hP9 trivial
                    replace hn := hn.pu hP9 trivial
                    replace hq7 := hq7.pu hP9 trivial
                    replace hm := hm.pu hP9 trivial
                    replace hA := hA.f1 hP9.fr (fun _ => rfl)
                    (repeat (refine BW.pl rfl rfl ?_))
                    refine BW.kst (fun hK => ?_)
                    have hAv := hA.t
                    have e8 : v = ((hd l4 - 48).toNat : Int) := by omega
                    refine CW.addPart (d := d + 5) (F := Nu S6) (p := (6, (hd l4 - 48).toNat, [], false)) rfl rfl (by first | exact Or.inl rfl | exact Or.inr rfl) rfl rfl (by first | exact Or.inl rfl | exact Or.inr rfl) rfl hm hmk hq7 hE7 (hC.nil hN8.nil) hFq ⟨256, rfl, hK 256 (by decide)⟩ ⟨(Nat.le_of_ble_eq_true rfl), (show (hd l4 - 48).toNat < 100 by omega)⟩ (by omega) (by omega) rfl e8 rfl (fun S10 cap8 xs8 hq8 hE8 hF10 hc1 hc2 => ?_)
                    have hF79 : Fr S7 S9 (fun m => m = n ∨ m = q) (12 + 4) := (((Fr.rf (S := S7) (W := fun m => m = n ∨ m = q)).nw hN8).f1 hP9.fr (fun _ => Or.inl rfl)).w (fun _ _ z => z) (by omega)
                    replace hpq := hpq.fr hF10 ⟨⟨hp.old (oNe rfl), Nat.le_of_ble_eq_true rfl⟩, (Sep.two (Sep.ne (hp.ne hm (ownNe rfl))) (Sep.ne (hp.ne hq7 (oNe rfl))))⟩
                    replace hpu := hpu.fr hF10 ⟨⟨hp.old (oNe rfl), Nat.le_of_ble_eq_true rfl⟩, (Sep.two (Sep.ne (hp.ne hm (ownNe rfl))) (Sep.ne (hp.ne hq7 (oNe rfl))))⟩
                    replace hpw := hpw.fr hF10 ⟨⟨hp.old (oNe rfl), Nat.le_of_ble_eq_true rfl⟩, (Sep.two (Sep.ne (hp.ne hm (ownNe rfl))) (Sep.ne (hp.ne hq7 (oNe rfl))))⟩
                    replace hp68 := hp68.fr hF10 ⟨⟨hp.old (oNe rfl), Nat.le_of_ble_eq_true rfl⟩, (Sep.two (Sep.ne (hp.ne hm (ownNe rfl))) (Sep.ne (hp.ne hq7 (oNe rfl))))⟩
                    replace hp67 := hp67.fr hF10 ⟨⟨hp.old (oNe rfl), Nat.le_of_ble_eq_true rfl⟩, (Sep.two (Sep.ne (hp.ne hm (ownNe rfl))) (Sep.ne (hp.ne hq7 (oNe rfl))))⟩
                    replace h76 := h76.fr hF10 ⟨⟨hn.old (oNe rfl), Nat.le_of_ble_eq_true rfl⟩, (Sep.two (Sep.ne (hn.ne hm (ownNe rfl))) (Sep.ne (hn.ne hq7 (oNe rfl))))⟩
                    replace h77 := h77.fr hF10 ⟨⟨hn.old (oNe rfl), Nat.le_of_ble_eq_true rfl⟩, (Sep.two (Sep.ne (hn.ne hm (ownNe rfl))) (Sep.ne (hn.ne hq7 (oNe rfl))))⟩
                    replace h9 := h9.fr hF10 ⟨(NoS.two (NoS.one hm rfl) (NoS.one hq7 rfl)), (Sep.two (Sep.ne (hn.ne hm (ownNe rfl))) (Sep.ne (hn.ne hq7 (oNe rfl))))⟩
                    replace hp := hp.fr hF10 ⟨oNe rfl, (Sep.two (Sep.ne (hp.ne hm (ownNe rfl))) (Sep.ne (hp.ne hq7 (oNe rfl))))⟩
                    replace hu := hu.fr hF10 ⟨oNe rfl, (Sep.two (Sep.ne (hu.ne hm (oNe rfl))) (Sep.ne (hu.ne hq7 (oNe rfl))))⟩
                    replace hw := hw.fr hF10 ⟨oNe rfl, (Sep.two (Sep.ne (hw.ne hm (oNe rfl))) (Sep.ne (hw.ne hq7 (oNe rfl))))⟩
                    replace hn := hn.fr hF10 ⟨oNe rfl, (Sep.two (Sep.ne (hn.ne hm (ownNe rfl))) (Sep.ne (hn.ne hq7 (oNe rfl))))⟩
                    replace hA := hA.f2 hF10 (fun z => absurd hmz z) (fun z => absurd hqz z)
                    (iterate 1 (refine BW.pl rfl rfl ?_))
                    have e9 : pItem closed stars (92 :: l4) = .inr (l6, closed, stars, [(6, (hd l4 - 48).toNat, [], false)]) := by
                      rw [pItem_is, if_neg (show ¬ hd (92 :: l4) = 40 from fun z => by cases z), if_pos (show hd (92 :: l4) = 92 from rfl), e5]
                      unfold toR
                      rw [if_pos e3]
                      exact if_pos e4
                    have e10 : l6.length < (92 :: l4).length := by rw [e5, List.length_tail, List.length_cons]; omega
                    exact next (k - 1) l6 closed stars _ S10 cap8 xs8 (by omega) (z4 (List.cons_ne_nil _ _)) e9 e10 (by simp; simp at e10; omega) ((hF79.f2 hF10 (fun z => absurd hN8.nil z) (fun _ => Or.inr rfl)).w (fun _ _ z => z) (by omega)) hc1 hc2 h9 h76 h77 hq8 hE8
                  · rintro f S9 r S' ⟨e1, hF9, hT8⟩
                    have e9 : pItem closed stars (92 :: l4) = .inl f := by
                      rw [pItem_is, if_neg (show ¬ hd (92 :: l4) = 40 from fun z => by cases z), if_pos (show hd (92 :: l4) = 92 from rfl)]
                      unfold toR
                      split at e1
                      · rename_i g1
                        rw [if_pos g1]
                        split at e1
                        · cases e1
                        · rename_i g2; cases e1; exact if_neg g2
                      · rename_i g1
                        rw [if_neg g1]; cases e1; rfl
                    exact fault f S9 _ r S' (List.cons_ne_nil _ _) (z4 (List.cons_ne_nil _ _)) zk e9 (hA.f1 hF9 (fun _ => rfl)) (by have q1 : (40 :: l4).length = l4.length + 1 := rfl; have q2 : (92 :: l4).length = l4.length + 1 := rfl; omega) hT8
                · have y2h : ¬ hd l3 = 92 := fun z => y2 ((lk_hd (by decide)).mpr z)
                  refine BW.br rfl rfl (by first | omega | decide | (constructor <;> first | omega | decide)) (fun w5 => ?_) (fun w5 => by first | (exfalso; omega) | exact absurd w5 (by decide))
                  (repeat (refine BW.pl rfl rfl ?_))
                  refine CW.pp rfl rfl (by first | exact Or.inl rfl | exact Or.inr (tagO hn rfl rfl)) (Or.inl (by decide)) rfl rfl (C_plain (d := d + 2) (x := p) h7 hp hpq hq7 hE7 hNF7 hFn hFq h76 h77 hst (by omega) (by omega)) (fun l6 c6 st6 qs S8 cap8 xs8 e1 e2 e3 hF8 e4 e5 h8 g76 g77 hq8 hE8 => ?_) (fun f S8 r S' e1 hF8 hT8 => ?_)
                  · (iterate 1 (refine BW.pl rfl rfl ?_))
                    have zl : l3 ≠ [] := fun a => by rw [a] at e2; exact absurd e2 (Nat.not_lt_zero _)
                    exact next (k - 1) l6 c6 st6 qs S8 cap8 xs8 (by omega) (z4 zl) (by rw [pItem_is, if_neg y1h, if_neg y2h]; exact e1) e2 e3 hF8 e4 e5 h8 g76 g77 hq8 hE8
                  · have hA8 := hA.f2 hF8 (fun _ => rfl) (fun z => absurd hqz z)
                    by_cases zl : l3 = []
                    · rw [zl] at e1
                      have e1 : (.inl [] : PR (Nat × Nat × List SPart)) = .inl f := e1
                      cases e1
                      exact z5 zl _ _ _ _ hA8 (by omega) hT8
                    · exact fault f S8 _ r S' zl (z4 zl) zk (by rw [pItem_is, if_neg y1h, if_neg y2h]; exact e1) hA8 (by omega) hT8
          rcases hee with ⟨a1, a2⟩ | ⟨a1, a2, a3⟩
          · (repeat (refine BW.pl rfl rfl ?_))
            refine BW.br rfl rfl (by first | omega | decide | (constructor <;> first | omega | decide)) (fun w3 => by first | (exfalso; omega) | exact absurd w3 (by decide)) (fun w3 => ?_)
            (repeat (refine BW.pl rfl rfl ?_))
            refine CW.e1 rfl rfl (by first | exact Or.inl rfl | exact Or.inr (tagO (by assumption) (by rfl) (by rfl))) (by first | exact Or.inl (by decide) | exact Or.inr ⟨_, rfl, by assumption⟩) rfl (B_over (d := d + 8) h7) ?_
            rw [if_neg (z3 a1)]
            refine BW.br rfl rfl (by first | omega | decide | (constructor <;> first | omega | decide)) (fun w4 => by first | (exfalso; omega) | exact absurd w4 (by decide)) (fun w4 => ?_)
            exact at34
          · (repeat (refine BW.pl rfl rfl ?_))
            refine BW.br rfl rfl (by first | omega | decide | (constructor <;> first | omega | decide)) (fun w3 => ?_) (fun w3 => by first | (exfalso; omega) | exact absurd w3 (by decide))
            exact at34
    induction k with
    | zero =>
      intro ite closed stars acc l3 S7 cap7 c7 xs7 hk hsp hcl hst h7 hq7 hE7 h76 h77 hC hc7 hcap7 hac hl3 hac2
      exact step 0 ite closed stars acc l3 S7 cap7 c7 xs7 hk hsp hcl hst h7 hq7 hE7 h76 h77 hC hc7 hcap7 hac hl3 hac2 (fun k1 _ _ _ _ _ _ _ z => by omega)
    | succ k ih =>
      intro ite closed stars acc l3 S7 cap7 c7 xs7 hk hsp hcl hst h7 hq7 hE7 h76 h77 hC hc7 hcap7 hac hl3 hac2
      refine step (k + 1) ite closed stars acc l3 S7 cap7 c7 xs7 hk hsp hcl hst h7 hq7 hE7 h76 h77 hC hc7 hcap7 hac hl3 hac2 (fun k1 l6 c6 st6 qs S8 cap8 xs8 z1 z2 z3 z4 z5 hF8 z6 z7 h8 g76 g77 hq8 hE8 => ?_)
      obtain ⟨o1, o2, o3⟩ := pItem_ok z3 hcl hst
      refine ih (ite + 1) c6 st6 (acc ++ qs) l6 S8 cap8 _ xs8 (by omega) (by rw [hsp, pItems_s z2 z3]) o1 o2 h8 hq8 hE8 g76 g77 (hC.f2 hF8 (fun _ => Or.inl rfl) (fun _ => Or.inr rfl)) (by omega) ?_ ?_ (by omega) (fun z => absurd (List.append_eq_nil_iff.mp z).2 o3)
      · rw [List.length_append]; omega
      · rw [List.length_append]; omega
  exact loop 12 0 0 0 [] l0 S6 0 0 [] rfl rfl (by decide) (by decide) h5 hq hE h76 h77 Fr.rf (by omega) (by simp) (by simp) (Nat.le_refl _) (fun _ => rfl)
end PA
