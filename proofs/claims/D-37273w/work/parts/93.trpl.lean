set_option maxRecDepth 100000
/-! the twin's act s -/
def putOk (c : Nat) : List Int → Prop
  | [] => True
  | x :: q => if x = 92 then (match q with
      | [] => False
      | y :: q => (49 ≤ y ∧ y ≤ 48 + (c : Int)) ∧ putOk c q)
    else (isChr x = true ∨ x = 38) ∧ putOk c q
theorem pPut_out {c : Nat} (hc : c ≤ 2) : ∀ (k : Nat) (q l2 pu : List Int), pPut c k q = .inr (l2, pu) → q = pu ++ l2 ∧ putOk c pu ∧ ∀ x ∈ pu, x ≠ 47 := by
  intro k
  induction k with
  | zero =>
    intro q l2 pu h
    unfold pPut at h
    split at h
    · split at h
      · split at h
        · cases h
        · cases h
      · cases h
    · split at h
      · cases h
      · cases h
        exact ⟨rfl, True.intro, fun x hx => by cases hx⟩
  | succ k ih =>
    intro q l2 pu h
    unfold pPut at h
    split at h
    · rename_i h92
      split at h
      · split at h
        · rename_i hR
          dsimp only at h
          cases hq : pPut c k q.tail.tail with
          | inl f => rw [hq] at h; cases h
          | inr w =>
            obtain ⟨l3, r⟩ := w
            rw [hq] at h
            cases h
            obtain ⟨e1, e2, e3⟩ := ih _ _ _ hq
            have h0 : hd q.tail ≠ 0 := by omega
            refine ⟨?_, ?_, ?_⟩
            · rw [List.cons_append, List.cons_append, ← e1, ← hd_cons9 rfl h0]
              exact hd_cons9 h92 (by decide)
            · show (if (92 : Int) = 92 then (49 ≤ hd q.tail ∧ hd q.tail ≤ 48 + (c : Int)) ∧ putOk c r else _)
              rw [if_pos rfl]
              exact ⟨hR, e2⟩
            · intro x hx
              rcases List.mem_cons.mp hx with hx | hx
              · omega
              · rcases List.mem_cons.mp hx with hx | hx
                · omega
                · exact e3 x hx
        · cases h
      · cases h
    · rename_i h92
      split at h
      · rename_i hch
        dsimp only at h
        cases hq : pPut c k q.tail with
        | inl f => rw [hq] at h; cases h
        | inr w =>
          obtain ⟨l3, r⟩ := w
          rw [hq] at h
          cases h
          obtain ⟨e1, e2, e3⟩ := ih _ _ _ hq
          have h0 : hd q ≠ 0 := by
            rcases hch with z | z
            · have := chr_R z; omega
            · omega
          refine ⟨?_, ?_, ?_⟩
          · rw [List.cons_append, ← e1]
            exact hd_cons9 rfl h0
          · have e0 : putOk c (hd q :: r) = if hd q = 92 then (match r with
                | [] => False
                | y :: q => (49 ≤ y ∧ y ≤ 48 + (c : Int)) ∧ putOk c q)
              else (isChr (hd q) = true ∨ hd q = 38) ∧ putOk c r := by cases r <;> rfl
            rw [e0, if_neg h92]
            exact ⟨hch, e2⟩
          · intro x hx
            rcases List.mem_cons.mp hx with hx | hx
            · rw [hx]
              rcases hch with z | z
              · have := chr_R z; omega
              · omega
            · exact e3 x hx
      · cases h
        exact ⟨rfl, True.intro, fun x hx => by cases hx⟩
section TRpl
variable {d : Nat} {σ τ : TS} {s l l1 l2 : List Int} {fs as : List Nat} {pre mid post t : List SLine} {p : Nat} {h o : List (List Int)} {fi : Nat → List (List Int)} {m : Nat → Option Int} {n : Int} {rp : Bool} {rs : List (List Int)} {xs ys : List Int}
theorem T_makesPut {row c a e : Nat} {u x : Int} {b g : MG} {pu : List Int} (hs : SgnIs σ s) (hx : Sfx s (pu ++ l2) x) (h47 : hd l2 = 47) (hok : putOk c pu) (hc2 : c ≤ 2) (hr : RowIs σ row ys) (hu : u = row) (hrow : row < 868) (hfa : (σ.1 40) = a) (hfe : (σ.1 41) = e) (hae : a ≤ e ∧ e ≤ ys.length) (hg : ∀ n, 1 ≤ n → n ≤ c → (σ.2 38 n = b n ∧ σ.2 39 n = g n) ∧ 0 ≤ b n ∧ b n ≤ g n ∧ g n ≤ ys.length) (hM : MadeIs σ xs) (hl : xs.length + 30 * pu.length ≤ 80000) : TM (d + 3) tk_makesPut [.inr 0, .inl u, .inl x] σ (fun r τ => r = none ∧ MadeIs τ (xs ++ sPut ys a e b g pu) ∧ TFr [20] [19] σ τ) := by
  subst hu
  have h30 := hr.2.1
  refine TM.of rfl rfl ?_
  (iterate 2 (first | (refine TW.getf rfl rfl rfl (fun _ => ?_)) | (refine TW.pl rfl rfl ?_)))
  have loop : ∀ (k : Nat) (q zs : List Int) (v : Int) (τ : TS), q.length ≤ k → Sfx s (q ++ l2) v → putOk c q → MadeIs τ zs → zs.length + 30 * q.length ≤ 80000 → zs ++ sPut ys a e b g q = xs ++ sPut ys a e b g pu → TFr [20] [19] σ τ → TW (d + 2) tc_makesPut 2 [some (.inr 0), some (.inl row), some (.inl x), some (.inl v)] [] τ (fun r τ => r = none ∧ MadeIs τ (xs ++ sPut ys a e b g pu) ∧ TFr [20] [19] σ τ) := by
    intro k
    have stop : ∀ (zs : List Int) (v : Int) (τ : TS), Sfx s l2 v → MadeIs τ zs → zs ++ sPut ys a e b g [] = xs ++ sPut ys a e b g pu → TFr [20] [19] σ τ → TW (d + 2) tc_makesPut 2 [some (.inr 0), some (.inl row), some (.inl x), some (.inl v)] [] τ (fun r τ => r = none ∧ MadeIs τ (xs ++ sPut ys a e b g pu) ∧ TFr [20] [19] σ τ) := by
      intro zs v τ hv hm he hf
      have ha := (hs.fr hf (by decide) (by decide)).at hv (hd_ne h47 (by decide))
      (repeat (first | (refine TW.getf rfl rfl rfl (fun _ => ?_)) | (refine TW.pl rfl rfl ?_)))
      refine TW.iald (n := 60) rfl rfl rfl (by omega) (fun _ => ?_)
      rw [ha.1, h47]
      (repeat (first | (refine TW.getf rfl rfl rfl (fun _ => ?_)) | (refine TW.pl rfl rfl ?_)))
      refine TW.br rfl rfl (by first | omega | exact b2i_R _ | exact ⟨b2i_R _, by omega⟩) (fun q1 => ?_) (fun q1 => ?_)
      · refine TW.vret rfl ⟨rfl, ?_, hf⟩
        rw [← he, show sPut ys a e b g [] = [] from rfl, List.append_nil]
        exact hm
      · exact absurd rfl q1
    induction k with
    | zero =>
      intro q zs v τ hk hv hq hm hz he hf
      have hq0 : q = [] := List.length_eq_zero_iff.mp (by omega)
      subst hq0
      exact stop zs v τ hv hm he hf
    | succ k ih =>
      intro q zs v τ hk hv hq hm hz he hf
      cases q with
      | nil => exact stop zs v τ hv hm he hf
      | cons c0 q =>
        have hsτ := hs.fr hf (by decide) (by decide)
        have ha := hsτ.at hv (by simp)
        have hc0 : hd (c0 :: q ++ l2) = c0 := rfl
        rw [hc0] at ha
        simp at hk hz
        have hrτ : RowIs τ row ys := hr.fr (hf.2 6 (by decide))
        have hfa' : τ.1 40 = a := (hf.1 40 (by decide)).trans hfa
        have hfe' : τ.1 41 = e := (hf.1 41 (by decide)).trans hfe
        have hv1 : Sfx s (q ++ l2) (v + 1) := hv.step (by simp) rfl
        have e0 : sPut ys a e b g (c0 :: q) = if c0 = 38 then (ys.drop a).take (e - a) ++ sPut ys a e b g q
          else if c0 = 92 then (match q with
            | [] => []
            | y :: q => (ys.drop (b (y - 48).toNat).toNat).take (g (y - 48).toNat - b (y - 48).toNat).toNat ++ sPut ys a e b g q)
          else c0 :: sPut ys a e b g q := by cases q <;> rfl
        rw [e0] at he
        have e1 : putOk c (c0 :: q) = if c0 = 92 then (match q with
            | [] => False
            | y :: q => (49 ≤ y ∧ y ≤ 48 + (c : Int)) ∧ putOk c q)
          else (isChr c0 = true ∨ c0 = 38) ∧ putOk c q := by cases q <;> rfl
        rw [e1] at hq
        have h47' : c0 ≠ 47 := by
          split at hq
          · omega
          · rcases hq.1 with z | z
            · have := chr_R z; omega
            · omega
        (repeat (first | (refine TW.getf rfl rfl rfl (fun _ => ?_)) | (refine TW.pl rfl rfl ?_)))
        refine TW.iald (n := 60) rfl rfl rfl (by omega) (fun _ => ?_)
        rw [ha.1]
        (repeat (first | (refine TW.getf rfl rfl rfl (fun _ => ?_)) | (refine TW.pl rfl rfl ?_)))
        refine TW.br rfl rfl (by first | omega | exact b2i_R _ | exact ⟨b2i_R _, by omega⟩) (fun q1 => ?_) (fun q1 => ?_)
        · exact absurd q1 h47'
        (repeat (first | (refine TW.getf rfl rfl rfl (fun _ => ?_)) | (refine TW.pl rfl rfl ?_)))
        refine TW.iald (n := 60) rfl rfl rfl (by omega) (fun _ => ?_)
        rw [ha.1]
        (repeat (first | (refine TW.getf rfl rfl rfl (fun _ => ?_)) | (refine TW.pl rfl rfl ?_)))
        refine TW.br rfl rfl (by first | omega | exact b2i_R _ | exact ⟨b2i_R _, by omega⟩) (fun q2 => ?_) (fun q2 => ?_)
        · rw [if_neg q2] at he
          (repeat (first | (refine TW.getf rfl rfl rfl (fun _ => ?_)) | (refine TW.pl rfl rfl ?_)))
          refine TW.iald (n := 60) rfl rfl rfl (by omega) (fun _ => ?_)
          rw [ha.1]
          (repeat (first | (refine TW.getf rfl rfl rfl (fun _ => ?_)) | (refine TW.pl rfl rfl ?_)))
          refine TW.br rfl rfl (by first | omega | exact b2i_R _ | exact ⟨b2i_R _, by omega⟩) (fun q3 => ?_) (fun q3 => ?_)
          · rw [if_neg q3] at he hq
            (repeat (first | (refine TW.getf rfl rfl rfl (fun _ => ?_)) | (refine TW.pl rfl rfl ?_)))
            refine TW.iald (n := 60) rfl rfl rfl (by omega) (fun _ => ?_)
            rw [ha.1]
            refine TW.cv1 rfl rfl rfl (Nat.le_of_ble_eq_true rfl) (T_makes hm (by omega) (by omega)) ?_
            rintro _ τ1 ⟨rfl, hm1, hf1⟩
            (iterate 2 (first | (refine TW.getf rfl rfl rfl (fun _ => ?_)) | (refine TW.pl rfl rfl ?_)))
            exact ih q _ (v + 1) τ1 (by omega) hv1 hq.2 hm1 (by simp; omega) (by rw [List.append_assoc]; exact he) (hf.trans hf1)
          · rw [if_pos q3] at he hq
            cases q with
            | nil => exact hq.elim
            | cons y q =>
              have hv2 : Sfx s (q ++ l2) (v + 1 + 1) := hv1.step (by simp) rfl
              have hb := hsτ.at hv1 (by simp)
              have hy0 : hd (y :: q ++ l2) = y := rfl
              rw [hy0] at hb
              obtain ⟨hyR, hq⟩ := hq
              simp at hk hz
              obtain ⟨⟨g1, g2⟩, g3, g4, g5⟩ := hg (y - 48).toNat (by omega) (by omega)
              have g1 : τ.2 38 (y - 48).toNat = b (y - 48).toNat := by rw [hf.2 38 (by decide)]; exact g1
              have g2 : τ.2 39 (y - 48).toNat = g (y - 48).toNat := by rw [hf.2 39 (by decide)]; exact g2
              (repeat (first | (refine TW.getf rfl rfl rfl (fun _ => ?_)) | (refine TW.pl rfl rfl ?_)))
              refine TW.iald (n := 60) rfl rfl rfl (by omega) (fun _ => ?_)
              rw [hb.1]
              (repeat (first | (refine TW.getf rfl rfl rfl (fun _ => ?_)) | (refine TW.pl rfl rfl ?_)))
              refine TW.iald (n := 3) rfl rfl rfl (by omega) (fun _ => ?_)
              rw [g1]
              (repeat (first | (refine TW.getf rfl rfl rfl (fun _ => ?_)) | (refine TW.pl rfl rfl ?_)))
              refine TW.iald (n := 60) rfl rfl rfl (by omega) (fun _ => ?_)
              rw [hb.1]
              (repeat (first | (refine TW.getf rfl rfl rfl (fun _ => ?_)) | (refine TW.pl rfl rfl ?_)))
              refine TW.iald (n := 3) rfl rfl rfl (by omega) (fun _ => ?_)
              rw [g2]
              refine TW.cv3 rfl rfl rfl (Nat.le_of_ble_eq_true rfl) (T_makesRow hrτ hrow (by omega) hm (by omega)) ?_
              rintro _ τ1 ⟨rfl, hm1, hf1⟩
              (iterate 3 (first | (refine TW.getf rfl rfl rfl (fun _ => ?_)) | (refine TW.pl rfl rfl ?_)))
              refine ih q _ (v + 1 + 1) τ1 (by omega) hv2 hq hm1 ?_ (by rw [List.append_assoc]; exact he) (hf.trans hf1)
              rw [List.length_append, List.length_take, List.length_drop]
              omega
        · rw [if_pos q2] at he
          rw [if_neg (by omega)] at hq
          (repeat (first | (refine TW.getf rfl rfl rfl (fun _ => ?_)) | (refine TW.pl rfl rfl ?_)))
          rw [hfa', hfe']
          refine TW.cv3 rfl rfl rfl (Nat.le_of_ble_eq_true rfl) (T_makesRow hrτ hrow (by omega) hm (by omega)) ?_
          rintro _ τ1 ⟨rfl, hm1, hf1⟩
          rw [show ((a : Nat) : Int).toNat = a by omega, show (((e : Nat) : Int) - ((a : Nat) : Int)).toNat = e - a by omega] at hm1
          (iterate 3 (first | (refine TW.getf rfl rfl rfl (fun _ => ?_)) | (refine TW.pl rfl rfl ?_)))
          refine ih q _ (v + 1) τ1 (by omega) hv1 hq.2 hm1 ?_ (by rw [List.append_assoc]; exact he) (hf.trans hf1)
          rw [List.length_append, List.length_take, List.length_drop]
          omega
  exact loop pu.length pu xs x σ (Nat.le_refl _) hx hok hM hl rfl TFr.rf
theorem mFrom_ge {pt : SPat} : ∀ (k pl : Nat) (a : Nat) (w : Nat × MG × MG), mFrom pt ys k pl = some (a, w) → pl ≤ a := by
  intro k
  induction k with
  | zero => intro pl a w hh; cases hh
  | succ k ih =>
    intro pl a w hh
    unfold mFrom at hh
    cases hA : mAt pt ys pl with
    | none =>
      rw [hA] at hh
      have := ih (pl + 1) a w hh
      omega
    | some q =>
      rw [hA] at hh
      cases hh
      exact Nat.le_refl _
theorem mNext_gt {pt : SPat} {e0 a e : Nat} {b g : MG} (hh : mNext pt ys e0 = some (a, e, b, g)) (hae : a ≤ e) : e0 < e ∧ e0 ≤ a := by
  unfold mNext at hh
  cases hA : mAt pt ys e0 with
  | none =>
    rw [hA] at hh
    have := mFrom_ge _ _ _ _ hh
    omega
  | some q =>
    rw [hA] at hh
    dsimp only at hh
    split at hh
    · cases hh
      rename_i hlt
      exact ⟨hlt, Nat.le_refl _⟩
    · have := mFrom_ge _ _ _ _ hh
      omega
/-- what s has: the pattern, what is put, and how often -/
theorem pRepl_out {q pu : List Int} {pt : SPat} {ea : Bool} {nr : Int} (hh : pRepl q = .inr (l1, pt, pu, ea, nr)) (h48 : ¬ hd l1 = 48) : ∃ la c lb, q = 47 :: q.tail ∧ pPat 47 q.tail = .inr (la, c, pt) ∧ hd la = 47 ∧ la.tail = pu ++ lb ∧ hd lb = 47 ∧ putOk c pu ∧ (∀ x ∈ pu, x ≠ 47) ∧ PatOk pt c ∧ ((hd lb.tail = 103 ∧ ea = true ∧ nr = 1) ∨ ((¬ hd lb.tail = 103) ∧ isDig (hd lb.tail) = true ∧ ea = false ∧ nr = hd lb.tail - 48 ∧ 1 ≤ nr) ∨ ((¬ hd lb.tail = 103) ∧ isDig (hd lb.tail) = false ∧ ea = false ∧ nr = 1)) := by
  unfold pRepl at hh
  split at hh
  · rename_i h47
    cases hp : pPat 47 q.tail with
    | inl f => rw [hp] at hh; cases hh
    | inr w =>
      obtain ⟨la, c, pt2⟩ := w
      rw [hp] at hh
      dsimp only at hh
      have hok := pPat_ok hp
      split at hh
      · rename_i hla
        cases hpu : pPut c la.length la.tail with
        | inl f => rw [hpu] at hh; cases hh
        | inr w =>
          obtain ⟨lb, pu2⟩ := w
          rw [hpu] at hh
          dsimp only at hh
          obtain ⟨e1, e2, e3⟩ := pPut_out hok.2.2.2 _ _ _ _ hpu
          split at hh
          · rename_i hlb
            split at hh
            · rename_i h103
              cases hh
              exact ⟨la, c, lb, hd_cons9 h47 (by decide), rfl, hla, e1, hlb, e2, e3, hok, Or.inl ⟨h103, rfl, rfl⟩⟩
            · rename_i h103
              split at hh
              · rename_i hdg
                cases hh
                exact ⟨la, c, lb, hd_cons9 h47 (by decide), rfl, hla, e1, hlb, e2, e3, hok, Or.inr (Or.inl ⟨h103, decide_eq_true (by omega), rfl, rfl, by omega⟩)⟩
              · rename_i hdg
                cases hh
                exact ⟨la, c, lb, hd_cons9 h47 (by decide), rfl, hla, e1, hlb, e2, e3, hok, Or.inr (Or.inr ⟨h103, decide_eq_false (by omega), rfl, rfl⟩)⟩
          · cases hh
      · cases hh
  · cases hh
abbrev fR : List Nat := [20, 33, 34, 35, 36, 37, 40, 41, 44]
abbrev aRp : List Nat := [6, 19, 31, 32, 38, 39]
def RepQ (σ : TS) (row : Nat) (R : List Int × Bool) (r : Option Int) (τ : TS) : Prop := TFr fR aRp σ τ ∧ RSame (fun k => k = row) σ τ ∧ r = some (b2i (decide (R.1.length ≤ 30))) ∧ (R.1.length ≤ 30 → RowIs τ row R.1 ∧ (τ.1 44) = if R.2 = true then 1 else (σ.1 44))
theorem T_replaces {od : SOrd0} {row : Nat} {u x : Int} (hs : SgnIs σ s) (hr : RowIs σ row ys) (hu : u = row) (hrow : row < 868) (hx : Sfx s l x) (hl0 : l ≠ []) (hp : pRepl l.tail = .inr (l1, oPat od, oPut od, oEac od, oNum od)) (h48 : ¬ hd l1 = 48) : TM (d + 7) tk_replaces [.inr 0, .inl u, .inl x] σ (RepQ σ row (sRepl od ys)) := by
  subst hu
  have h30 := hr.2.1
  have h60 := hs.2.1
  obtain ⟨la, c, lb, hq, hpp, hla, hlt, hlb, hok, hn47, hpok, hfl⟩ := pRepl_out hp h48
  have hx1 := hx.step hl0 rfl
  have hx2 : Sfx s l.tail.tail (x + 2) := hx1.step (by rw [hq]; simp) (by omega)
  refine TM.of rfl rfl ?_
  (repeat (first | (refine TW.getf rfl rfl rfl (fun _ => ?_)) | (refine TW.pl rfl rfl ?_)))
  refine TW.cv2 rfl rfl rfl (Nat.le_of_ble_eq_true rfl) (T_compile hs hx2 (Or.inl rfl) hpp hla) ?_
  rintro _ τ1 ⟨rfl, hf1, hcm, hbp⟩
  have hs1 := hs.fr hf1 (by decide) (by decide)
  have hput : Sfx s (oPut od ++ lb) (τ1.1 37 + 1) := by
    have := hbp.step (y := τ1.1 37 + 1) (hd_ne hla (by decide)) rfl
    rw [hlt] at this
    exact this
  have hrow1 : RowIs τ1 row ys := hr.fr (hf1.2 6 (by decide))
  have hpl := hput.len
  simp at hpl
  have hn1 : τ1.1 22 = s.length := hs1.1
  generalize hy0 : τ1.1 37 + 1 = y0 at hput hpl
  have hlbe : Sfx s lb (y0 + (oPut od).length) := by
    have := hput.drop (i := (oPut od).length) (by simp) rfl
    rw [List.drop_left' rfl] at this
    exact this
  have hpul : (oPut od).length ≤ 60 := by omega
  have hlb0 : lb ≠ [] := hd_ne hlb (by decide)
  have hlb1 : Sfx s lb.tail (y0 + (oPut od).length + 1) := hlbe.step hlb0 rfl
  have hlb1l := hlb1.len
  -- the finds
  have main : ∀ (wn : Int), (oEac od = false → wn = oNum od) → 1 ≤ wn ∧ wn ≤ 9 → (oEac od = false → 1 ≤ oNum od) → TW (d + 6) tc_replaces 64 [some (.inr 0), some (.inl row), some (.inl x), some (.inl y0), some (.inl (y0 + (oPut od).length)), some (.inl (b2i (oEac od))), some (.inl wn), none, none, none, none] [] τ1 (RepQ σ row (sRepl od ys)) := by
    intro wn hwn hwR hnr
    -- behind all finds
    have last : ∀ (made : List Int) (fr : Nat) (is : Bool) (f : Int) (o10 : Option TV) (τ : TS), fr ≤ ys.length → made.length ≤ 80000 → MadeIs τ made → TFr [20, 33, 34, 35, 36, 37, 40, 41] [19, 31, 32, 38, 39] σ τ → sRepl od ys = (if is = true then (made ++ ys.drop fr, true) else (ys, false)) → TW (d + 6) tc_replaces 111 [some (.inr 0), some (.inl row), some (.inl x), some (.inl y0), some (.inl (y0 + (oPut od).length)), some (.inl (b2i (oEac od))), some (.inl wn), some (.inl f), some (.inl fr), some (.inl (b2i is)), o10] [] τ (RepQ σ row (sRepl od ys)) := by
      intro made fr is f o10 τ hfr hml hm hf he
      have hrτ : RowIs τ row ys := hr.fr (hf.2 6 (by decide))
      rw [he]
      cases is with
      | false =>
        rw [if_neg (show ¬ false = true by decide)]
        (repeat (first | (refine TW.getf rfl rfl rfl (fun _ => ?_)) | (refine TW.pl rfl rfl ?_)))
        refine TW.br rfl rfl (by first | omega | exact b2i_R _ | exact ⟨b2i_R _, by omega⟩) (fun q1 => ?_) (fun q1 => ?_)
        · exact absurd rfl q1
        · (repeat (first | (refine TW.getf rfl rfl rfl (fun _ => ?_)) | (refine TW.pl rfl rfl ?_)))
          refine TW.zret rfl (Or.inr rfl) ⟨hf.mono (by decide) (by decide), fun i _ => by rw [hf.2 6 (by decide)], ?_, fun _ => ⟨hrτ, ?_⟩⟩
          · show some 1 = some (b2i (decide (ys.length ≤ 30)))
            rw [decide_eq_true h30]; rfl
          · exact hf.1 44 (by decide)
      | true =>
        rw [if_pos rfl]
        (repeat (first | (refine TW.getf rfl rfl rfl (fun _ => ?_)) | (refine TW.pl rfl rfl ?_)))
        refine TW.br rfl rfl (by first | omega | exact b2i_R _ | exact ⟨b2i_R _, by omega⟩) (fun q1 => ?_) (fun q1 => ?_)
        · (repeat (first | (refine TW.getf rfl rfl rfl (fun _ => ?_)) | (refine TW.pl rfl rfl ?_)))
          refine TW.cv1 rfl rfl rfl (Nat.le_of_ble_eq_true rfl) (T_lenR hrτ rfl hrow) ?_; rintro _ _ ⟨rfl, rfl⟩
          refine TW.cv3 rfl rfl rfl (Nat.le_of_ble_eq_true rfl) (T_makesRow hrτ hrow (by omega) hm (by omega)) ?_
          rintro _ τ2 ⟨rfl, hm2, hf2⟩
          rw [show ((fr : Nat) : Int).toNat = fr by omega, List.take_of_length_le (by rw [List.length_drop]; omega)] at hm2
          (repeat (first | (refine TW.getf rfl rfl rfl (fun _ => ?_)) | (refine TW.pl rfl rfl ?_)))
          refine TW.putz rfl rfl (Or.inr rfl) ?_
          (repeat (first | (refine TW.getf rfl rfl rfl (fun _ => ?_)) | (refine TW.pl rfl rfl ?_)))
          refine TW.cv1 rfl rfl rfl (Nat.le_of_ble_eq_true rfl) (T_lays' rfl hrow (hm2.fr (τ := ts1 τ2 44 1) (ts1_ne (by decide)) rfl) (by rw [List.length_append, List.length_drop]; omega)) ?_
          rintro _ τ3 ⟨rfl, hr3, -, hs3, hf3⟩
          have hfa : TFr fR aRp σ τ3 := (((hf.mono (by decide) (by decide)).trans (hf2.mono (by decide) (by decide))).ts1 (by decide)).trans (hf3.mono (by decide) (by decide))
          refine TW.zret rfl ?_ ⟨hfa, fun i hi => ?_, rfl, fun h3 => ⟨hr3 h3, ?_⟩⟩
          · unfold b2i; split
            · exact Or.inr rfl
            · exact Or.inl rfl
          · rw [hs3 i hi, ts1_2, hf2.2 6 (by decide), hf.2 6 (by decide)]
          · rw [hf3.1 44 (by decide), ts1_eq]; rfl
        · exact absurd q1 (by decide)
    have loop : ∀ (k : Nat) (R : Option (Nat × Nat × MG × MG)) (f : Nat) (fr : Nat) (made : List Int) (is : Bool) (τ : TS), (match R with
        | none => True
        | some (a, e, b, g) => (τ.1 40) = a ∧ (τ.1 41) = e ∧ Agr (clo 0 (oPat od).1) false (τ.2 38) b (τ.2 39) g ∧ GOk (clo 0 (oPat od).1) false (τ.2 38) (τ.2 39) e ∧ e ≤ ys.length ∧ a ≤ e ∧ fr ≤ a ∧ 40 ≤ k + e) → k ≤ 40 → f ≤ 40 - k → (oEac od = false → (f : Int) < wn) → fr ≤ ys.length → made.length ≤ 1900 * (40 - k) → MadeIs τ made → TFr [20, 33, 34, 35, 36, 37, 40, 41] [19, 31, 32, 38, 39] σ τ → CmpIs τ s (oPat od) → (match sReplF od ys k R f fr made is with
        | (made, from', is) => if is = true then (made ++ ys.drop from', true) else (ys, false)) = sRepl od ys → TW (d + 6) tc_replaces 78 [some (.inr 0), some (.inl row), some (.inl x), some (.inl y0), some (.inl (y0 + (oPut od).length)), some (.inl (b2i (oEac od))), some (.inl wn), some (.inl f), some (.inl fr), some (.inl (b2i is)), some (.inl (b2i R.isSome))] [] τ (RepQ σ row (sRepl od ys)) := by
      intro k
      induction k with
      | zero =>
        intro R f fr made is τ hR hk40 hf hfw hfr hml hm hfm hcm' he
        cases R with
        | none =>
          (repeat (first | (refine TW.getf rfl rfl rfl (fun _ => ?_)) | (refine TW.pl rfl rfl ?_)))
          refine TW.br rfl rfl (by first | omega | exact b2i_R _ | exact ⟨b2i_R _, by omega⟩) (fun q1 => ?_) (fun q1 => ?_)
          · exact last made fr is f _ τ hfr (by omega) hm hfm he.symm
          · exact absurd rfl q1
        | some w =>
          obtain ⟨a, e, b, g⟩ := w
          obtain ⟨-, -, -, -, h1, -, -, h2⟩ := hR
          omega
      | succ k ih =>
        intro R f fr made is τ hR hk40 hf hfw hfr hml hm hfm hcm' he
        cases R with
        | none =>
          (repeat (first | (refine TW.getf rfl rfl rfl (fun _ => ?_)) | (refine TW.pl rfl rfl ?_)))
          refine TW.br rfl rfl (by first | omega | exact b2i_R _ | exact ⟨b2i_R _, by omega⟩) (fun q1 => ?_) (fun q1 => ?_)
          · exact last made fr is f _ τ hfr (by omega) hm hfm he.symm
          · exact absurd rfl q1
        | some w =>
          obtain ⟨a, e, b, g⟩ := w
          obtain ⟨ha, hE, hag, hgo, hel, hae, hfra, hke⟩ := hR
          have hrτ : RowIs τ row ys := hr.fr (hfm.2 6 (by decide))
          have hsτ := hs.fr hfm (by decide) (by decide)
          have e0 : sReplF od ys (k + 1) (some (a, e, b, g)) f fr made is = if oEac od = true then sReplF od ys k (mNext (oPat od) ys e) (f + 1) e (made ++ (ys.drop fr).take (a - fr) ++ sPut ys a e b g (oPut od)) true
            else if ((f : Nat) : Int) + 1 = oNum od then (made ++ (ys.drop fr).take (a - fr) ++ sPut ys a e b g (oPut od), e, true)
            else sReplF od ys k (mNext (oPat od) ys e) (f + 1) fr made is := rfl
          rw [e0] at he
          -- it goes on behind a find
          have next : ∀ (f' : Int) (fr' : Nat) (made' : List Int) (is' : Bool) (τ' : TS) (Z : TS → Option Int → Prop), TFr [20] [19] τ τ' → MadeIs τ' made' → (∀ τ2, TFr [20, 33, 34, 35, 36, 37, 40, 41] [19, 31, 32, 38, 39] σ τ2 → MadeIs τ2 made' → CmpIs τ2 s (oPat od) → (match mNext (oPat od) ys e with
              | none => True
              | some (a1, e1, b1, g1) => (τ2.1 40) = a1 ∧ (τ2.1 41) = e1 ∧ Agr (clo 0 (oPat od).1) false (τ2.2 38) b1 (τ2.2 39) g1 ∧ GOk (clo 0 (oPat od).1) false (τ2.2 38) (τ2.2 39) e1 ∧ e1 ≤ ys.length ∧ a1 ≤ e1 ∧ e ≤ a1 ∧ e < e1) → TW (d + 6) tc_replaces 78 [some (.inr 0), some (.inl row), some (.inl x), some (.inl y0), some (.inl (y0 + (oPut od).length)), some (.inl (b2i (oEac od))), some (.inl wn), some (.inl f'), some (.inl fr'), some (.inl (b2i is')), some (.inl (b2i (mNext (oPat od) ys e).isSome))] [] τ2 (RepQ σ row (sRepl od ys))) → TW (d + 6) tc_replaces 106 [some (.inr 0), some (.inl row), some (.inl x), some (.inl y0), some (.inl (y0 + (oPut od).length)), some (.inl (b2i (oEac od))), some (.inl wn), some (.inl f'), some (.inl fr'), some (.inl (b2i is')), some (.inl 1)] [] τ' (RepQ σ row (sRepl od ys)) := by
            intro f' fr' made' is' τ' Z hf' hm' hQ
            have hrτ' : RowIs τ' row ys := hrτ.fr (hf'.2 6 (by decide))
            (repeat (first | (refine TW.getf rfl rfl rfl (fun _ => ?_)) | (refine TW.pl rfl rfl ?_)))
            refine TW.cv1 rfl rfl rfl (Nat.le_of_ble_eq_true rfl) (T_findsNext (hsτ.fr hf' (by decide) (by decide)) (hcm'.fr hf' (by decide) (by decide)) hpok.1 hrτ' hrow ((hf'.1 41 (by decide)).trans hE) hel) ?_
            rintro r τ2 ⟨hf2, hq⟩
            have hfm2 : TFr [20, 33, 34, 35, 36, 37, 40, 41] [19, 31, 32, 38, 39] σ τ2 := (hfm.trans (hf'.mono (by decide) (by decide))).trans (hf2.mono (by decide) (by decide))
            have hm2 := hm'.fr (τ := τ2) (hf2.1 20 (by decide)) (hf2.2 19 (by decide))
            have hc2 := (hcm'.fr hf' (by decide) (by decide)).fr hf2 (by decide) (by decide)
            have hQ2 := hQ τ2 hfm2 hm2 hc2
            revert hq hQ2
            cases hN : mNext (oPat od) ys e with
            | none =>
              intro hq hQ2
              have hq : r = some 0 := hq
              subst hq
              (iterate 2 (first | (refine TW.getf rfl rfl rfl (fun _ => ?_)) | (refine TW.pl rfl rfl ?_)))
              exact hQ2 True.intro
            | some w =>
              obtain ⟨a1, e1, b1, g1⟩ := w
              rintro ⟨rfl, c1, c2, c3, c4, c5, c6⟩ hQ2
              have hgt := mNext_gt hN c6
              (iterate 2 (first | (refine TW.getf rfl rfl rfl (fun _ => ?_)) | (refine TW.pl rfl rfl ?_)))
              exact hQ2 ⟨c1, c2, c3, c4, c5, c6, hgt.2, hgt.1⟩
          -- a find is put
          have puts : ∀ (f' : Int) (Q0 : Prop), (∀ (τ' : TS), TFr [20] [19] τ τ' → MadeIs τ' (made ++ (ys.drop fr).take (a - fr) ++ sPut ys a e b g (oPut od)) → (made ++ (ys.drop fr).take (a - fr) ++ sPut ys a e b g (oPut od)).length ≤ 1900 * (40 - k) → TW (d + 6) tc_replaces 106 [some (.inr 0), some (.inl row), some (.inl x), some (.inl y0), some (.inl (y0 + (oPut od).length)), some (.inl (b2i (oEac od))), some (.inl wn), some (.inl f'), some (.inl e), some (.inl 1), some (.inl 1)] [] τ' (RepQ σ row (sRepl od ys))) → TW (d + 6) tc_replaces 91 [some (.inr 0), some (.inl row), some (.inl x), some (.inl y0), some (.inl (y0 + (oPut od).length)), some (.inl (b2i (oEac od))), some (.inl wn), some (.inl f'), some (.inl fr), some (.inl (b2i is)), some (.inl 1)] [] τ (RepQ σ row (sRepl od ys)) := by
            intro f' Q0 hQ
            have hpm : made.length ≤ 80000 - 1900 := by omega
            (repeat (first | (refine TW.getf rfl rfl rfl (fun _ => ?_)) | (refine TW.pl rfl rfl ?_)))
            rw [ha]
            refine TW.cv3 rfl rfl rfl (Nat.le_of_ble_eq_true rfl) (T_makesRow hrτ hrow (by omega) hm (by omega)) ?_
            rintro _ τ2 ⟨rfl, hm2, hf2⟩
            rw [show ((fr : Nat) : Int).toNat = fr by omega, show (((a : Nat) : Int) - ((fr : Nat) : Int)).toNat = a - fr by omega] at hm2
            have hl2 : (made ++ (ys.drop fr).take (a - fr)).length ≤ made.length + 30 := by
              rw [List.length_append, List.length_take, List.length_drop]; omega
            (repeat (first | (refine TW.getf rfl rfl rfl (fun _ => ?_)) | (refine TW.pl rfl rfl ?_)))
            refine TW.cv2 rfl rfl rfl (Nat.le_of_ble_eq_true rfl) (T_makesPut (c := c) (a := a) (e := e) (b := b) (g := g) (hsτ.fr hf2 (by decide) (by decide)) hput hlb hok hpok.2.2.2 (hrτ.fr (hf2.2 6 (by decide))) rfl hrow ((hf2.1 40 (by decide)).trans ha) ((hf2.1 41 (by decide)).trans hE) ⟨hae, hel⟩ ?_ hm2 (by omega)) ?_
            · intro n h1 h2
              have hcl : clo 0 (oPat od).1 = c := hpok.2.1
              rw [hcl] at hag hgo
              have e1 := hag.1 n h1 h2
              have e2 := hgo.1 n h1 h2
              rw [hf2.2 38 (by decide), hf2.2 39 (by decide)]
              rw [← e1.1, ← e1.2]
              exact ⟨⟨rfl, rfl⟩, e2.1, e2.2.1, by omega⟩
            rintro _ τ3 ⟨rfl, hm3, hf3⟩
            have hE3 : τ3.1 41 = e := by rw [hf3.1 41 (by decide), hf2.1 41 (by decide)]; exact hE
            (iterate 2 (first | (refine TW.getf rfl rfl rfl (fun _ => ?_)) | (refine TW.pl rfl rfl ?_)))
            rw [hE3]
            (iterate 3 (first | (refine TW.getf rfl rfl rfl (fun _ => ?_)) | (refine TW.pl rfl rfl ?_)))
            refine hQ τ3 (hf2.trans hf3) hm3 ?_
            have hpl2 : ∀ (q : List Int) (z : Nat), q.length ≤ z → putOk c q → (sPut ys a e b g q).length ≤ 30 * q.length := by
              intro q z
              induction z generalizing q with
              | zero => intro hz _; rw [List.length_eq_zero_iff.mp (by omega : q.length = 0)]; exact Nat.le_refl _
              | succ z ihz =>
                intro hz hpo
                cases q with
                | nil => exact Nat.le_refl _
                | cons c0 q =>
                  have e0 : sPut ys a e b g (c0 :: q) = if c0 = 38 then (ys.drop a).take (e - a) ++ sPut ys a e b g q
                    else if c0 = 92 then (match q with
                      | [] => []
                      | y :: q => (ys.drop (b (y - 48).toNat).toNat).take (g (y - 48).toNat - b (y - 48).toNat).toNat ++ sPut ys a e b g q)
                    else c0 :: sPut ys a e b g q := by cases q <;> rfl
                  have e1 : putOk c (c0 :: q) = if c0 = 92 then (match q with
                      | [] => False
                      | y :: q => (49 ≤ y ∧ y ≤ 48 + (c : Int)) ∧ putOk c q)
                    else (isChr c0 = true ∨ c0 = 38) ∧ putOk c q := by cases q <;> rfl
                  rw [e1] at hpo
                  rw [e0]
                  simp at hz
                  split
                  · rw [if_neg (by omega)] at hpo
                    have := ihz q (by omega) hpo.2
                    rw [List.length_append, List.length_take, List.length_drop, List.length_cons]
                    omega
                  · split
                    · rename_i h92
                      rw [if_pos h92] at hpo
                      cases q with
                      | nil => simp
                      | cons y q =>
                        simp at hz
                        have := ihz q (by omega) hpo.2
                        dsimp only
                        rw [List.length_append, List.length_take, List.length_drop, List.length_cons, List.length_cons]
                        omega
                    · rename_i h92
                      rw [if_neg h92] at hpo
                      have := ihz q (by omega) hpo.2
                      rw [List.length_cons, List.length_cons]
                      omega
            have := hpl2 (oPut od) _ (Nat.le_refl _) hok
            rw [List.length_append]
            omega
          rw [show b2i (some (a, e, b, g)).isSome = 1 from rfl]
          (repeat (first | (refine TW.getf rfl rfl rfl (fun _ => ?_)) | (refine TW.pl rfl rfl ?_)))
          refine TW.br rfl rfl (by first | omega | exact b2i_R _ | exact ⟨b2i_R _, by omega⟩) (fun q1 => ?_) (fun q1 => ?_)
          · exact absurd q1 (by decide)
          (repeat (first | (refine TW.getf rfl rfl rfl (fun _ => ?_)) | (refine TW.pl rfl rfl ?_)))
          cases hea : oEac od with
          | true =>
            rw [if_pos hea] at he
            rw [hea] at next puts ih
            refine TW.br rfl rfl (by first | omega | exact b2i_R _ | exact ⟨b2i_R _, by omega⟩) (fun q2 => ?_) (fun q2 => ?_)
            · (repeat (first | (refine TW.getf rfl rfl rfl (fun _ => ?_)) | (refine TW.pl rfl rfl ?_)))
              refine TW.br rfl rfl (by first | omega | exact b2i_R _ | exact ⟨b2i_R _, by omega⟩) (fun q3 => ?_) (fun q3 => ?_)
              · refine puts _ True (fun τ' hf' hm' hl' => ?_)
                refine next _ e _ true τ' (fun _ _ => True) hf' hm' (fun τ2 hfm2 hm2 hc2 hN => ?_)
                refine ih (mNext (oPat od) ys e) (f + 1) e _ true τ2 ?_ (by omega) (by omega) (fun z => absurd z (by decide)) hel hl' hm2 hfm2 hc2 he
                revert hN
                cases mNext (oPat od) ys e with
                | none => intro _; exact True.intro
                | some w =>
                  obtain ⟨a1, e1, b1, g1⟩ := w
                  rintro ⟨c1, c2, c3, c4, c5, c6, c7, c8⟩
                  exact ⟨c1, c2, c3, c4, c5, c6, c7, by omega⟩
              · exact absurd q3 (by decide)
            · exact absurd q2 (by decide)
          | false =>
            have hwn' := hwn hea
            have hfw' := hfw hea
            rw [if_neg (by rw [hea]; decide)] at he
            rw [hea] at next puts ih
            refine TW.br rfl rfl (by first | omega | exact b2i_R _ | exact ⟨b2i_R _, by omega⟩) (fun q2 => ?_) (fun q2 => ?_)
            · exact absurd rfl q2
            (repeat (first | (refine TW.getf rfl rfl rfl (fun _ => ?_)) | (refine TW.pl rfl rfl ?_)))
            refine TW.br rfl rfl (by first | omega | exact b2i_R _ | exact ⟨b2i_R _, by omega⟩) (fun q3 => ?_) (fun q3 => ?_)
            · omega
            (repeat (first | (refine TW.getf rfl rfl rfl (fun _ => ?_)) | (refine TW.pl rfl rfl ?_)))
            refine TW.br rfl rfl (by first | omega | exact b2i_R _ | exact ⟨b2i_R _, by omega⟩) (fun q4 => ?_) (fun q4 => ?_)
            · exact absurd rfl q4
            (repeat (first | (refine TW.getf rfl rfl rfl (fun _ => ?_)) | (refine TW.pl rfl rfl ?_)))
            refine TW.br rfl rfl (by first | omega | exact b2i_R _ | exact ⟨b2i_R _, by omega⟩) (fun q5 => ?_) (fun q5 => ?_)
            · rw [if_neg (by omega)] at he
              refine next _ fr made is τ (fun _ _ => True) TFr.rf hm (fun τ2 hfm2 hm2 hc2 hN => ?_)
              refine ih (mNext (oPat od) ys e) (f + 1) fr made is τ2 ?_ (by omega) (by omega) (fun _ => by omega) hfr (by omega) hm2 hfm2 hc2 he
              revert hN
              cases mNext (oPat od) ys e with
              | none => intro _; exact True.intro
              | some w =>
                obtain ⟨a1, e1, b1, g1⟩ := w
                rintro ⟨c1, c2, c3, c4, c5, c6, c7, c8⟩
                exact ⟨c1, c2, c3, c4, c5, c6, by omega, by omega⟩
            · rw [if_pos (by omega)] at he
              refine puts _ True (fun τ' hf' hm' hl' => ?_)
              refine next _ e _ true τ' (fun _ _ => True) hf' hm' (fun τ2 hfm2 hm2 hc2 hN => ?_)
              have fin := last _ e true (((f : Nat) : Int) + 1) (some (.inl (b2i (mNext (oPat od) ys e).isSome))) τ2 hel (by omega) hm2 hfm2 he.symm
              rw [hea] at fin
              (repeat (first | (refine TW.getf rfl rfl rfl (fun _ => ?_)) | (refine TW.pl rfl rfl ?_)))
              refine TW.br rfl rfl (by first | omega | exact b2i_R _ | exact ⟨b2i_R _, by omega⟩) (fun q6 => ?_) (fun q6 => ?_)
              · exact fin
              (repeat (first | (refine TW.getf rfl rfl rfl (fun _ => ?_)) | (refine TW.pl rfl rfl ?_)))
              refine TW.br rfl rfl (by first | omega | exact b2i_R _ | exact ⟨b2i_R _, by omega⟩) (fun q7 => ?_) (fun q7 => ?_)
              · exact absurd rfl q7
              (repeat (first | (refine TW.getf rfl rfl rfl (fun _ => ?_)) | (refine TW.pl rfl rfl ?_)))
              refine TW.br rfl rfl (by first | omega | exact b2i_R _ | exact ⟨b2i_R _, by omega⟩) (fun q8 => ?_) (fun q8 => ?_)
              · exact fin
              · omega
    (iterate 6 (first | (refine TW.getf rfl rfl rfl (fun _ => ?_)) | (refine TW.pl rfl rfl ?_)))
    (repeat (first | (refine TW.getf rfl rfl rfl (fun _ => ?_)) | (refine TW.pl rfl rfl ?_)))
    refine TW.cv2 rfl rfl rfl (Nat.le_of_ble_eq_true rfl) (T_finds (place := 0) hs1 hcm hpok.1 hrow1 hrow (by omega)) ?_
    rintro r τ2 ⟨hf2, hq⟩
    have hfm2 : TFr [20, 33, 34, 35, 36, 37, 40, 41] [19, 31, 32, 38, 39] σ (ts1 τ2 20 0) := ((hf1.mono (by decide) (by decide)).trans (hf2.mono (by decide) (by decide))).ts1 (by decide)
    have hc2 : CmpIs (ts1 τ2 20 0) s (oPat od) := (hcm.fr hf2 (by decide) (by decide)).fr (fs := [20]) (as := []) (TFr.rf.ts1 (by decide)) (by decide) (by decide)
    have e9 : (match sReplF od ys 40 (mFind (oPat od) ys 0) 0 0 [] false with
        | (made, from', is) => if is = true then (made ++ ys.drop from', true) else (ys, false)) = sRepl od ys := rfl
    have hl := loop 40 (mFind (oPat od) ys 0) 0 0 [] false (ts1 τ2 20 0)
    revert hq hl e9
    cases mFind (oPat od) ys 0 with
    | none =>
      intro hq e9 hl
      have hq : r = some 0 := hq
      subst hq
      (repeat (first | (refine TW.getf rfl rfl rfl (fun _ => ?_)) | (refine TW.pl rfl rfl ?_)))
      refine TW.putf rfl rfl (by omega) ?_
      exact hl True.intro (by omega) (by omega) (fun z => by have := hnr z; have := hwn z; omega) (by omega) (by simp) MadeIs.nil hfm2 hc2 e9
    | some w =>
      obtain ⟨a, e, b, g⟩ := w
      rintro ⟨rfl, c1, c2, c3, c4, c5, c6⟩ e9 hl
      (repeat (first | (refine TW.getf rfl rfl rfl (fun _ => ?_)) | (refine TW.pl rfl rfl ?_)))
      refine TW.putf rfl rfl (by omega) ?_
      exact hl ⟨by rw [ts1_ne (by decide)]; exact c1, by rw [ts1_ne (by decide)]; exact c2, c3, c4, c5, c6, Nat.zero_le _, by omega⟩ (by omega) (by omega) (fun z => by have := hnr z; have := hwn z; omega) (by omega) (by simp) MadeIs.nil hfm2 hc2 e9
  -- the flag behind
  have flag : TW (d + 6) tc_replaces 21 [some (.inr 0), some (.inl row), some (.inl x), some (.inl y0), some (.inl (y0 + (oPut od).length)), none, none, none, none, none, none] [] τ1 (RepQ σ row (sRepl od ys)) := by
    have num : TW (d + 6) tc_replaces 39 [some (.inr 0), some (.inl row), some (.inl x), some (.inl y0), some (.inl (y0 + (oPut od).length)), some (.inl (b2i (oEac od))), none, none, none, none, none] [] τ1 (RepQ σ row (sRepl od ys)) := by
      have one : ∀ wn : Int, (oEac od = false → wn = oNum od) → 1 ≤ wn ∧ wn ≤ 9 → (oEac od = false → 1 ≤ oNum od) → TW (d + 6) tc_replaces 63 [some (.inr 0), some (.inl row), some (.inl x), some (.inl y0), some (.inl (y0 + (oPut od).length)), some (.inl (b2i (oEac od))), none, none, none, none, none] [.inl wn] τ1 (RepQ σ row (sRepl od ys)) := by
        intro wn h1 h2 h3
        (iterate 1 (first | (refine TW.getf rfl rfl rfl (fun _ => ?_)) | (refine TW.pl rfl rfl ?_)))
        exact main wn h1 h2 h3
      have hno : isDig (hd lb.tail) = false → TW (d + 6) tc_replaces 62 [some (.inr 0), some (.inl row), some (.inl x), some (.inl y0), some (.inl (y0 + (oPut od).length)), some (.inl (b2i (oEac od))), none, none, none, none, none] [] τ1 (RepQ σ row (sRepl od ys)) := by
        intro hdg
        (iterate 1 (first | (refine TW.getf rfl rfl rfl (fun _ => ?_)) | (refine TW.pl rfl rfl ?_)))
        rcases hfl with ⟨f1, f2, f3⟩ | ⟨f0, f1, f2, f3, f4⟩ | ⟨f0, f1, f2, f3⟩
        · exact one 1 (fun z => by rw [f2] at z; cases z) (by decide) (fun z => by rw [f2] at z; cases z)
        · rw [f1] at hdg; cases hdg
        · exact one 1 (fun _ => f3.symm) (by decide) (fun _ => by omega)
      (repeat (first | (refine TW.getf rfl rfl rfl (fun _ => ?_)) | (refine TW.pl rfl rfl ?_)))
      refine TW.br rfl rfl (by first | omega | exact b2i_R _ | exact ⟨b2i_R _, by omega⟩) (fun q1 => ?_) (fun q1 => ?_)
      · exact hno (by rw [hlb1.nil_iff.mpr (by omega)]; rfl)
      · have hne : lb.tail ≠ [] := fun z => by have := hlb1.nil_iff.mp z; omega
        have ha := hs1.at hlb1 hne
        (repeat (first | (refine TW.getf rfl rfl rfl (fun _ => ?_)) | (refine TW.pl rfl rfl ?_)))
        refine TW.iald (n := 60) rfl rfl rfl (by omega) (fun _ => ?_)
        rw [ha.1]
        refine TW.cs1 rfl rfl rfl (Nat.le_of_ble_eq_true rfl) (T_isDigit (by omega)) ?_; rintro _ _ ⟨rfl, rfl⟩
        refine TW.br rfl rfl (by first | omega | exact b2i_R _ | exact ⟨b2i_R _, by omega⟩) (fun q2 => ?_) (fun q2 => ?_)
        · exact hno (b2i_0 q2)
        · have hdg := b2i_1 q2
          have hdR := isDig_R hdg
          (repeat (first | (refine TW.getf rfl rfl rfl (fun _ => ?_)) | (refine TW.pl rfl rfl ?_)))
          refine TW.iald (n := 60) rfl rfl rfl (by omega) (fun _ => ?_)
          rw [ha.1]
          (iterate 2 (first | (refine TW.getf rfl rfl rfl (fun _ => ?_)) | (refine TW.pl rfl rfl ?_)))
          rcases hfl with ⟨f1, f2, f3⟩ | ⟨f0, f1, f2, f3, f4⟩ | ⟨f0, f1, f2, f3⟩
          · omega
          · (iterate 1 (first | (refine TW.getf rfl rfl rfl (fun _ => ?_)) | (refine TW.pl rfl rfl ?_)))
            exact one _ (fun _ => f3.symm) (by omega) (fun _ => f4)
          · rw [f1] at hdg; cases hdg
    have hea0 : ¬ hd lb.tail = 103 → oEac od = false := by
      intro z
      rcases hfl with ⟨f1, _⟩ | ⟨_, _, f2, _⟩ | ⟨_, _, f2, _⟩
      · exact absurd f1 z
      · exact f2
      · exact f2
    have hno : ¬ hd lb.tail = 103 → TW (d + 6) tc_replaces 37 [some (.inr 0), some (.inl row), some (.inl x), some (.inl y0), some (.inl (y0 + (oPut od).length)), none, none, none, none, none, none] [] τ1 (RepQ σ row (sRepl od ys)) := by
      intro z
      rw [hea0 z] at num
      (iterate 2 (first | (refine TW.getf rfl rfl rfl (fun _ => ?_)) | (refine TW.pl rfl rfl ?_)))
      exact num
    (repeat (first | (refine TW.getf rfl rfl rfl (fun _ => ?_)) | (refine TW.pl rfl rfl ?_)))
    refine TW.br rfl rfl (by first | omega | exact b2i_R _ | exact ⟨b2i_R _, by omega⟩) (fun q1 => ?_) (fun q1 => ?_)
    · exact hno (by rw [hlb1.nil_iff.mpr (by omega)]; decide)
    · have hne : lb.tail ≠ [] := fun z => by have := hlb1.nil_iff.mp z; omega
      have ha := hs1.at hlb1 hne
      (repeat (first | (refine TW.getf rfl rfl rfl (fun _ => ?_)) | (refine TW.pl rfl rfl ?_)))
      refine TW.iald (n := 60) rfl rfl rfl (by omega) (fun _ => ?_)
      rw [ha.1]
      (repeat (first | (refine TW.getf rfl rfl rfl (fun _ => ?_)) | (refine TW.pl rfl rfl ?_)))
      refine TW.br rfl rfl (by first | omega | exact b2i_R _ | exact ⟨b2i_R _, by omega⟩) (fun q2 => ?_) (fun q2 => ?_)
      · exact hno q2
      · have hea1 : oEac od = true := by
          rcases hfl with ⟨_, f2, _⟩ | ⟨f0, _⟩ | ⟨f0, _⟩
          · exact f2
          · exact absurd q2 f0
          · exact absurd q2 f0
        rw [hea1] at num
        (iterate 3 (first | (refine TW.getf rfl rfl rfl (fun _ => ?_)) | (refine TW.pl rfl rfl ?_)))
        exact num
  -- where what is put ends
  have ends : ∀ (q i : Nat) (v : Int), v = y0 + i → i + q = (oPut od).length → TW (d + 6) tc_replaces 13 [some (.inr 0), some (.inl row), some (.inl x), some (.inl y0), some (.inl v), none, none, none, none, none, none] [] τ1 (RepQ σ row (sRepl od ys)) := by
    intro q
    induction q with
    | zero =>
      intro i v hv hi
      have hi2 : i = (oPut od).length := by omega
      subst hi2
      subst hv
      have ha := hs1.at hlbe hlb0
      (repeat (first | (refine TW.getf rfl rfl rfl (fun _ => ?_)) | (refine TW.pl rfl rfl ?_)))
      refine TW.iald (n := 60) rfl rfl rfl (by omega) (fun _ => ?_)
      rw [ha.1, hlb]
      (repeat (first | (refine TW.getf rfl rfl rfl (fun _ => ?_)) | (refine TW.pl rfl rfl ?_)))
      refine TW.br rfl rfl (by first | omega | exact b2i_R _ | exact ⟨b2i_R _, by omega⟩) (fun q1 => ?_) (fun q1 => ?_)
      · exact flag
      · exact absurd rfl q1
    | succ q ih =>
      intro i v hv hi
      have ha := hs1.atk (i := i) hput (by simp; omega) hv
      rw [getD_apl (by omega)] at ha
      have hm : (oPut od).getD i 0 ∈ oPut od := by
        rw [List.getD_eq_getElem?_getD, List.getElem?_eq_getElem (by omega)]
        exact List.getElem_mem _
      have h47 := hn47 _ hm
      (repeat (first | (refine TW.getf rfl rfl rfl (fun _ => ?_)) | (refine TW.pl rfl rfl ?_)))
      refine TW.iald (n := 60) rfl rfl rfl (by omega) (fun _ => ?_)
      rw [ha.1]
      (repeat (first | (refine TW.getf rfl rfl rfl (fun _ => ?_)) | (refine TW.pl rfl rfl ?_)))
      refine TW.br rfl rfl (by first | omega | exact b2i_R _ | exact ⟨b2i_R _, by omega⟩) (fun q1 => ?_) (fun q1 => ?_)
      · exact absurd q1 h47
      · (iterate 2 (first | (refine TW.getf rfl rfl rfl (fun _ => ?_)) | (refine TW.pl rfl rfl ?_)))
        exact ih (i + 1) (v + 1) (by omega) (by omega)
  (iterate 4 (first | (refine TW.getf rfl rfl rfl (fun _ => ?_)) | (refine TW.pl rfl rfl ?_)))
  rw [hy0]
  (iterate 3 (first | (refine TW.getf rfl rfl rfl (fun _ => ?_)) | (refine TW.pl rfl rfl ?_)))
  exact ends (oPut od).length 0 y0 (by omega) (by omega)
end TRpl
