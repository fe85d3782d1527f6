-- C
set_option maxRecDepth 100000
/-! LINEORDERS: stream, behind its script -/
section SR
variable {d n m q oq i a b e y cap c k j pl B cl re : Nat} {S S' S0 S1 S2 : BS} {K : Nat → Nat} {la la' : Int → Nat} {A : St} {F V : Nat → Prop} {v nn b1 x1 : Int} {r : Option Nat} {t : List SLine} {xs : List (Option Nat)} {os : List SOrd} {ds : List SDeed} {tp : List Int} {sc : Nat → Option (List Int)} {p : Nat} {h9 o9 : List (List Int)} {fi : Nat → List (List Int)} {mk : Nat → Option Int} {rp : Bool}
theorem WF.wspS (hw : WF (t, p, h9, o9, fi, mk, nn, rp)) : WSP nn ((0, []), true, [], [], t) (h9, o9, fi, mk, nn, rp) := by
  obtain ⟨w1, w2, w3, w4, w5, w6, w7, w8, w9⟩ := hw
  exact ⟨w3, w4, (fun r hr => by cases hr), w5, ⟨w6, Int.le_refl _, by show nn ≤ nn + ((0 : Nat) : Int); omega⟩, w7, w8, w9, Nat.zero_le _, w2⟩
theorem L_streamAt (h : PwI S K la tp sc A ds cl re B) (hOs : OrsD S F True oq os) (hFK : ∀ m, F m → KoM K m) (hos : ∀ o ∈ os, OrdOk o ∧ OgK o) (hol : os.length ≤ 25) (hil : ∀ o ∈ os, o.2.length ≤ 40) (hw : WF A) (hds : ∀ q ∈ ds, DqK A.2.2.2.2.2.2.1 q) (hdl : ds.length ≤ 40) (hcl : cl < 1000) (hn : A.2.2.2.2.2.2.1 < 1800000) (hB : B + 3000000 ≤ 20000000) : BW (d + 190) gm_X1_stream 4 [some (aR (K 1)), some (aI v), some (aR oq), none, none, none] [] S (fun r S' => ∃ v, r = .inl v ∧ ∃ la', v = vI (sStream os (cl + 1) A ds).1 ∧ PwI S' K la' tp sc (sStream os (cl + 1) A ds).2.2.1 (sStream os (cl + 1) A ds).2.2.2 (cl + 1) (sStream os (cl + 1) A ds).2.1 (B + 294000)) := by
  obtain ⟨t, p, h9, o9, fi, mk, nn, rp⟩ := A
  have h40 : t.length ≤ 40 := hw.2.1
  have hwp := WF.wspS hw
  have hn : nn < 1800000 := hn
  obtain ⟨cap0, hcap0, hL, hD, hR, h11, h12⟩ := h
  have hx := hL.1.obx
  -- plays, reason
  (repeat (first | (refine BW.pl rfl rfl ?_) | (refine CW.geti rfl rfl (by assumption) rfl rfl (by assumption) (fun _ => ?_)) | (refine CW.getr rfl rfl (by assumption) rfl rfl (by assumption) ?_)))
  first | (refine CW.putr rfl rfl (by assumption) rfl (by decide) (fun S1 hP1 h111 => ?_)) | (refine CW.puti rfl (by assumption) rfl (by decide) (by first | exact Or.inl ⟨rfl, by first | omega | decide | (constructor <;> first | omega | decide)⟩ | exact Or.inr (Or.inl ⟨rfl, by first | omega | decide | (constructor <;> first | omega | decide)⟩) | exact Or.inr (Or.inr (Or.inl ⟨rfl, by first | omega | decide | (constructor <;> first | omega | decide)⟩)) | exact Or.inr (Or.inr (Or.inr ⟨rfl, by first | omega | decide | (constructor <;> first | omega | decide)⟩))) (fun S1 hP1 h111 => ?_))
  have hx1 := hx.pu hP1 trivial
  (repeat (refine BW.pl rfl rfl ?_))
  first | (refine CW.putr rfl rfl (by assumption) rfl (by decide) (fun S2 hP2 h122 => ?_)) | (refine CW.puti rfl (by assumption) rfl (by decide) (by first | exact Or.inl ⟨rfl, by first | omega | decide | (constructor <;> first | omega | decide)⟩ | exact Or.inr (Or.inl ⟨rfl, by first | omega | decide | (constructor <;> first | omega | decide)⟩) | exact Or.inr (Or.inr (Or.inl ⟨rfl, by first | omega | decide | (constructor <;> first | omega | decide)⟩)) | exact Or.inr (Or.inr (Or.inr ⟨rfl, by first | omega | decide | (constructor <;> first | omega | decide)⟩))) (fun S2 hP2 h122 => ?_))
  have hx2 := hx1.pu hP2 trivial
  have hL1 : LO S1 K la (t, p, h9, o9, fi, mk, nn, rp) _ := hL.puN11 hP1 (Or.inl rfl)
  have hL2 : LO S2 K la (t, p, h9, o9, fi, mk, nn, rp) _ := hL1.puN11 hP2 (Or.inr (Or.inl rfl))
  have hD2 := (hD.pu hP1).pu hP2
  have hR2 := (hR.pu hP1 (by decide)).pu hP2 (by decide)
  have h112 : Fi S2 11 (K 1) ((cl + 1 : Nat) : Int) := by
    have h9 := h111.pu hP2 (Or.inl (by decide))
    have e9 : (cl : Int) + 1 = ((cl + 1 : Nat) : Int) := by omega
    rw [← e9]; exact h9
  have h122 : Fi S2 12 (K 1) ((0 : Nat) : Int) := h122
  have nF : ¬ F (K 1) := fun z => hFK _ z 1 (by decide) rfl
  have hO2 := ((hOs.pu hP1 nF).pu hP2 nF).old
  -- what was
  (repeat (refine BW.pl rfl rfl ?_))
  refine CW.newO (L := 7) (c := 3) rfl rfl rfl rfl (fun ah S3 hN3 => ?_)
  have hL3 := hL2.fr hN3.fr LoW.no (by omega)
  have hka : KoM K ah := hL2.1.ko hN3.nil
  have hahz := hN3.nil
  have hXs3 : XF K (fun _ => True) S2 S3 := XF.rf.nw hN3
  have h113 := hXs3.fK hL2.1 h112 (by decide)
  have hah := hN3.ob
  have hahk := hN3.1
  have hx3 := hL3.1.obx
  (repeat (first | (refine BW.pl rfl rfl ?_) | (refine CW.geti rfl rfl (by assumption) rfl rfl (by assumption) (fun _ => ?_)) | (refine CW.getr rfl rfl (by assumption) rfl rfl (by assumption) ?_)))
  refine CW.c3 rfl rfl (by first | exact Or.inl rfl | exact Or.inr (tagO (by assumption) (by rfl) (by rfl)) | exact Or.inr (tagO (AdrIs.ox (by assumption)) (by rfl) (by rfl)) | exact Or.inr (tagO (PatIs.ox (by assumption)) (by rfl) (by rfl)) | exact Or.inr (tagO (Or0.ox (by assumption)) (by rfl) (by rfl))) (by first | exact Or.inl (by decide) | exact Or.inr ⟨_, rfl, by assumption⟩) rfl (L_aheadNew (d := d + 181) (pl := cl + 1) hL3 hah hahk hka hw (by omega) rfl (by omega)) ?_
  rintro r S4 ⟨rfl, hF4, hH4⟩
  have hL4 := hL3.fr hF4 (LoW.one hka hah (ownNe rfl) rfl) (by omega)
  have hX24 : XF K (fun _ => True) S2 S4 := hXs3.f1 hF4 (fun z => absurd hahz z)
  (repeat (refine BW.pl rfl rfl ?_))
  -- the stream
  refine CW.newO (L := 12) (c := 12) rfl rfl rfl rfl (fun q S5 hN5 => ?_)
  have hL5 := hL4.fr hN5.fr LoW.no (by omega)
  have hkq : KoM K q := hL4.1.ko hN5.nil
  have hX25 : XF K (fun _ => True) S2 S5 := hX24.tr (XF.rf.nw hN5)
  have hqz : S2.1 q = oNil := hX24.nil hN5.nil
  have hq := hN5.ob
  have hqk := hN5.1
  have hfz := hN5.2.2.2.2
  (repeat (refine BW.pl rfl rfl ?_))
  refine CW.c3 rfl rfl (by first | exact Or.inl rfl | exact Or.inr (tagO (by assumption) (by rfl) (by rfl)) | exact Or.inr (tagO (AdrIs.ox (by assumption)) (by rfl) (by rfl)) | exact Or.inr (tagO (PatIs.ox (by assumption)) (by rfl) (by rfl)) | exact Or.inr (tagO (Or0.ox (by assumption)) (by rfl) (by rfl))) (by first | exact Or.inl (by decide) | exact Or.inr ⟨_, rfl, by assumption⟩) rfl (L_streamNew (d := d + 184) (oq := oq) hL5 hq hqk hkq hfz h40 (by omega)) ?_
  rintro r S6 ⟨rfl, hF6, ar, pq, dq, mc, ⟨kar, kpq, kdq⟩, ⟨zar, zpq, zdq⟩, hSO, hpq, hdq, h83, h84, h88, h89⟩
  have hL6 := hL5.fr hF6 (LoW.one hkq hq (ownNe rfl) rfl) (by omega)
  have hX26 : XF K (fun _ => True) S2 S6 := hX25.f1 hF6 (fun z => absurd hqz z)
  have hO6 := hO2.fr hN3.fr ⟨NoS.no, fun k z => z.elim⟩
  have hO6 := hO6.fr hF4 ⟨NoS.one hah rfl, fun k z hk => by rw [show k = ah from z] at hk; exact hk.2 hahz⟩
  have hO6 := hO6.fr hN5.fr ⟨NoS.no, fun k z => z.elim⟩
  have hO6 := hO6.fr hF6 ⟨NoS.one hq rfl, fun k z hk => by rw [show k = q from z] at hk; exact hk.2 hqz⟩
  have hk : StK K (fun m => F m ∧ S2.1 m ≠ oNil) q ar pq dq := ⟨fun m hm => hFK m hm.1, ⟨hkq, kar, kpq, kdq⟩, fun z => z.2 hqz, fun z => z.2 (hX25.nil zpq), fun z => z.2 (hX25.nil zdq)⟩
  obtain ⟨OA, xs, qi, ys, hOS, hOI, hOE⟩ := OsI.mk (L := t.length) hO6
  have hTS : StS S6 K la q oq ar pq dq t (((0, []), true, [], [], t), (h9, o9, fi, mk, nn, rp), 0, 0, false, fun _ _ => (0, false, false)) t 17 (B + 6 * cap0 + 700) := by
    refine ⟨hSO, ⟨p, hL6.1.le (by omega) (by omega)⟩, ⟨mc, hpq⟩, ⟨[], hdq, rfl, fun j hj => by cases hj⟩, ⟨⟨?_, h84, h88, h89⟩, ?_, Nat.le_refl _⟩, hL6.2⟩
    · show Fi S6 83 q ((t.length - t.length : Nat) : Int)
      rw [Nat.sub_self]; exact h83
    · show t = t.drop (t.length - t.length)
      rw [Nat.sub_self]; rfl
  have hH6 : AhIs S6 K la ah (cl + 1) (t, p, h9, o9, fi, mk, nn, rp) := by
    have h := hH4.xf (XF.rf.nw (V := fun _ => True) hN5)
    exact h.frO hF6 hq ⟨ownNe rfl, ownNe rfl⟩ (fun _ _ => oNe rfl) rfl
  have hRd2 : RdI S2 K la ds cap0 tp sc (cl + 1) 0 := ⟨hD2, hR2, hx2, h112, h122⟩
  have hkj : KInj K := hL2.1.1.1
  have hRd6 : RdI S6 K la ds cap0 tp sc (cl + 1) 0 := hRd2.xS (XS.of (F := fun m => F m ∧ S2.1 m ≠ oNil) (W := WSt q pq dq) hX26) hk.wo hkj
  (repeat (refine BW.pl rfl rfl ?_))
  have hos' : ∀ o ∈ os, OgK o ∧ OrdOk o := fun o ho => ⟨(hos o ho).2, (hos o ho).1⟩
  have hq6 := hSO.1
  have hdk : DqK nn (cl + 1, t, p, mk) := DqK.of (cl := cl + 1) hw (by omega)
  refine CW.call (as := [aR q]) (rest := []) rfl rfl rfl rfl rfl (by first | exact Or.inl rfl | exact Or.inr (tagO hq6 rfl rfl)) (Or.inl (by decide)) (L_play (d := d + 1) (Bm := B + 6 * cap0 + 289000) hTS hk hwp h40 hOI hOS hOE hos' hol hil (by omega) (by omega) (by omega)) (fun r S7 h7 => ?_) (fun E q9 S7 h7 => ?_)
  · -- it was played
    have eS : sStream os (cl + 1) (t, p, h9, o9, fi, mk, nn, rp) ds = match stAll t.length os t.length (((0, []), true, [], [], t), (h9, o9, stEmpty os fi, mk, nn, rp), 0, 0, false, fun _ _ => (0, false, false)) with
      | .inl w => (-1, w, (t, p, h9, o9, fi, mk, nn, rp), ds)
      | .inr ((_, _, _, pu, _), (h1, o1, fi1, m1, n1, rp1), st, _) => ((st : Int), 0, (pu, pu.length, h1, o1, fi1, m1, n1, rp1), keepD ds (cl + 1, t, p, mk)) := rfl
    rw [eS]
    cases hs : stAll t.length os t.length (((0, []), true, [], [], t), (h9, o9, stEmpty os fi, mk, nn, rp), 0, 0, false, fun _ _ => (0, false, false)) with
    | inl w =>
      rw [hs] at h7
      obtain ⟨_, _, _, _, _, _, _, _, _, _, q9, e9, _⟩ := h7
      cases e9
    | inr Sg =>
      rw [hs] at h7
      obtain ⟨⟨x1, g1, du1, pu1, re1⟩, ⟨h91, o91, fi1, m1, n1, rp1⟩, st1, tu1, ov1, ru1⟩ := Sg
      obtain ⟨e7, la7, hL7, hX7, hE7, hn7, hex7, hq7, h897⟩ := h7
      cases e7
      have hL7 : LO S7 K la7 (pu1, pu1.length, h91, o91, fi1, m1, n1, rp1) (B + 6 * cap0 + 289000) := hL7
      have h897 : Fi S7 89 q (st1 : Int) := h897
      obtain ⟨hD7, hR7, hx7, h117, h127⟩ := hRd6.xS hX7 hk.wo hkj
      have hD7 := hD7.lae hE7 hds
      have hH7 : AhIs S7 K la7 ah (cl + 1) (t, p, h9, o9, fi, mk, nn, rp) := (hH6.xS hX7).lae hE7 (fun x hx => (hdk.idR hx).2) (fun j x _ hx => (hdk.mk hx).2)
      obtain ⟨hka7, hah7, ⟨dm, h237, hDm⟩, -⟩ := id hH7
      have hDm : DeedIs S7 K la7 dm (cl + 1, t, p, mk) := hDm
      have h10 : ∃ xs, Ob S7 (K 10) (oAd xs cap0) := by obtain ⟨xs, z, _⟩ := hD7; exact ⟨xs, z⟩
      obtain ⟨xs10, h10⟩ := h10
      (repeat (first | (refine BW.pl rfl rfl ?_) | (refine CW.geti rfl rfl (by assumption) rfl rfl (by assumption) (fun _ => ?_)) | (refine CW.getr rfl rfl (by assumption) rfl rfl (by assumption) ?_)))
      refine CW.c2 rfl rfl (by first | exact Or.inl rfl | exact Or.inr (tagO (by assumption) (by rfl) (by rfl)) | exact Or.inr (tagO (AdrIs.ox (by assumption)) (by rfl) (by rfl)) | exact Or.inr (tagO (PatIs.ox (by assumption)) (by rfl) (by rfl)) | exact Or.inr (tagO (Or0.ox (by assumption)) (by rfl) (by rfl))) (by first | exact Or.inl (by decide) | exact Or.inr ⟨_, rfl, by assumption⟩) rfl (L_keepDeed (d := d + 185) hL7 hD7 hdl hDm hcap0) ?_
      rintro r S8 ⟨rfl, cap8, hc8, hc8', hD8, hF8⟩
      have hL8 := hL7.frK hF8 h10 (oNe rfl) rfl hL7.1.ne10 (by omega)
      have sk1 : Sep S7 (fun k => k = K 10) (K 1) := hL7.1.inj (by decide) (by decide) (by decide)
      have e7x := hx7.old (oNe rfl)
      have skq : Sep S7 (fun k => k = K 10) q := hkq 10 (by decide)
      have e7q := hq7.old (oNe rfl)
      have hq8 := hq7.fr hF8 ⟨oNe rfl, skq⟩
      have h898 := h897.fr hF8 ⟨⟨e7q, by decide⟩, skq⟩
      (repeat (first | (refine BW.pl rfl rfl ?_) | (refine CW.geti rfl rfl (by assumption) rfl rfl (by assumption) (fun _ => ?_)) | (refine CW.getr rfl rfl (by assumption) rfl rfl (by assumption) ?_)))
      exact BW.irx rfl (Or.inl ⟨rfl, by assumption⟩) ⟨_, rfl, la7, rfl, cap8, hc8', hL8.le (by omega) (by omega), hD8, hR7.f10 hF8 h10 rfl hL7.1, h117.fr hF8 ⟨⟨e7x, by decide⟩, sk1⟩, h127.fr hF8 ⟨⟨e7x, by decide⟩, sk1⟩⟩
  · -- it was refused
    right
    have eS : sStream os (cl + 1) (t, p, h9, o9, fi, mk, nn, rp) ds = match stAll t.length os t.length (((0, []), true, [], [], t), (h9, o9, stEmpty os fi, mk, nn, rp), 0, 0, false, fun _ _ => (0, false, false)) with
      | .inl w => (-1, w, (t, p, h9, o9, fi, mk, nn, rp), ds)
      | .inr ((_, _, _, pu, _), (h1, o1, fi1, m1, n1, rp1), st, _) => ((st : Int), 0, (pu, pu.length, h1, o1, fi1, m1, n1, rp1), keepD ds (cl + 1, t, p, mk)) := rfl
    cases hs : stAll t.length os t.length (((0, []), true, [], [], t), (h9, o9, stEmpty os fi, mk, nn, rp), 0, 0, false, fun _ _ => (0, false, false)) with
    | inr Sg =>
      rw [hs] at h7
      obtain ⟨e7, _⟩ := h7
      cases e7
    | inl w =>
      rw [hs] at h7 eS
      rw [eS]
      obtain ⟨S8, la8, t8, p8, ⟨h98, o98, fi8, m8, n8, rp8⟩, hL8, hX8, hE8, hn8, hex8, hT8⟩ := h7
      obtain ⟨n9, e9, hn91, hn9z, hn9, h789, hF9⟩ := hT8.fr0 (Or.inr rfl)
      cases e9
      refine ⟨29, n9, rfl, rfl, ?_⟩
      have hX89 : XF K (fun _ => True) S8 S7 := XF.rf.f0 hF9
      have hL9 := hL8.fr hF9 LoW.no (by omega)
      have hX69 := hX8.tr (XS.of (F := fun m => F m ∧ S2.1 m ≠ oNil) (W := WSt q pq dq) hX89)
      have hk9 : KoM K n9 := hL8.ko hn9z
      have hH9 : AhIs S7 K la8 ah (cl + 1) (t, p, h9, o9, fi, mk, nn, rp) := (hH6.xS hX69).lae hE8 (fun x hx => (hdk.idR hx).2) (fun j x _ hx => (hdk.mk hx).2)
      have hah9 := hH9.2.1
      (repeat (refine BW.pl rfl rfl ?_))
      refine CW.c1 rfl rfl (by first | exact Or.inl rfl | exact Or.inr (tagO (by assumption) (by rfl) (by rfl)) | exact Or.inr (tagO (AdrIs.ox (by assumption)) (by rfl) (by rfl)) | exact Or.inr (tagO (PatIs.ox (by assumption)) (by rfl) (by rfl)) | exact Or.inr (tagO (Or0.ox (by assumption)) (by rfl) (by rfl))) (by first | exact Or.inl (by decide) | exact Or.inr ⟨_, rfl, by assumption⟩) rfl (L_aheadBring (d := d + 179) (A1 := (t8, p8, h98, o98, fi8, m8, n8, rp8)) hL9 hH9 hw (by omega) hn8 hex8 (by omega)) ?_
      rintro r S10 ⟨rfl, hL10, hX910⟩
      have hX610 := hX69.tr (XS.of (F := fun m => F m ∧ S2.1 m ≠ oNil) (W := WSt q pq dq) hX910)
      obtain ⟨hD10, hR10, hx10, h1110, h1210⟩ := hRd6.xS hX610 hk.wo hkj
      have hD10 := hD10.lae hE8 hds
      have hn910 := (hX910.ob hn9 hk9 (oNe rfl) rfl).1
      have h78910 := hX910.fi hn9 hk9 (oNe rfl) rfl h789 (by decide)
      (repeat (first | (refine BW.pl rfl rfl ?_) | (refine CW.geti rfl rfl (by assumption) rfl rfl (by assumption) (fun _ => ?_)) | (refine CW.getr rfl rfl (by assumption) rfl rfl (by assumption) ?_)))
      first | (refine CW.putr rfl rfl (by assumption) rfl (by decide) (fun S11 hP11 h1211 => ?_)) | (refine CW.puti rfl (by assumption) rfl (by decide) (by first | exact Or.inl ⟨rfl, by first | omega | decide | (constructor <;> first | omega | decide)⟩ | exact Or.inr (Or.inl ⟨rfl, by first | omega | decide | (constructor <;> first | omega | decide)⟩) | exact Or.inr (Or.inr (Or.inl ⟨rfl, by first | omega | decide | (constructor <;> first | omega | decide)⟩)) | exact Or.inr (Or.inr (Or.inr ⟨rfl, by first | omega | decide | (constructor <;> first | omega | decide)⟩))) (fun S11 hP11 h1211 => ?_))
      (repeat (refine BW.pl rfl rfl ?_))
      have hL11 := hL10.puN11 hP11 (Or.inr (Or.inl rfl))
      exact BW.irx rfl (Or.inl ⟨rfl, by constructor <;> omega⟩) ⟨_, rfl, la8, rfl, cap0, hcap0, hL11.le (by omega) (by omega), hD10.pu hP11, hR10.pu hP11 (by decide), h1110.pu hP11 (Or.inl (by decide)), h1211⟩
end SR
