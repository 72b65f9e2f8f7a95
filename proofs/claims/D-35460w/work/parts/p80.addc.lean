/-! a constraint is added -/
set_option maxRecDepth 100000
/-- a problem with one more constraint -/
def ZPc (P : ZP) (so mn rm tr : Nat) (pl mv cv : Nat → Nat) (li : Int32) (fa hs : Nat → Int32) : ZP := (fun i => if i = 1 then Znc P + 1 else P.1 i, fun i j => if i = 1 ∧ j = Znc P then so else if i = 2 ∧ j = Znc P then mn else if i = 3 ∧ j = Znc P then rm else if i = 5 ∧ j = Znc P then tr else if i = 10 + Znc P then pl j else if i = 40 + Znc P then mv j else if i = 70 + Znc P then cv j else P.2.1 i j, fun i j => if i = 3 ∧ j = Znc P then li else if i = 10 + Znc P then fa j else if i = 40 + Znc P then hs j else P.2.2 i j)
/-- P' has one more constraint than P -/
def Zmor (P P' : ZP) : Prop := Znv P' = Znv P ∧ Znc P' = Znc P + 1 ∧ (∀ v, Zagv P P' v) ∧ (∀ c, c < Znc P → Zagc P P' c) ∧ ∀ t, Zsy P' t = Zsy P t
theorem ZPc_mor {P : ZP} (h24 : Znc P < 24) {so mn rm tr : Nat} {pl mv cv : Nat → Nat} {li : Int32} {fa hs : Nat → Int32} : Zmor P (ZPc P so mn rm tr pl mv cv li fa hs) := by
  have key : ∀ t, Zsy (ZPc P so mn rm tr pl mv cv li fa hs) t = Zsy P t := fun t => by
    simp only [Zsy, ZPc]
    rw [if_neg (by omega), if_neg (by omega), if_neg (by omega), if_neg (by omega), if_neg (by omega), if_neg (by omega), if_neg (by omega)]
  refine ⟨by simp [Znv, ZPc], by simp [Znc, ZPc], fun v => ⟨?_, ?_, ?_, ?_⟩, fun c hc => ⟨?_, ?_, ?_, ?_, fun p => ?_, fun i => ?_, fun p => ?_, ?_, fun p => ?_, fun p => ?_, key⟩, key⟩
  all_goals simp only [Zkd, Ztd, Zfm, Zto, Zso, Zmn, Zrm, Ztr, Zpl, Zmv, Zcv, Zli, Zfa, Zhs, ZPc]
  all_goals repeat rw [if_neg (by omega)]
theorem ZPc_new {P : ZP} (h24 : Znc P < 24) {so mn rm tr : Nat} {pl mv cv : Nat → Nat} {li : Int32} {fa hs : Nat → Int32} : Zso (ZPc P so mn rm tr pl mv cv li fa hs) (Znc P) = so ∧ Zmn (ZPc P so mn rm tr pl mv cv li fa hs) (Znc P) = mn ∧ Zrm (ZPc P so mn rm tr pl mv cv li fa hs) (Znc P) = rm ∧ Ztr (ZPc P so mn rm tr pl mv cv li fa hs) (Znc P) = tr ∧ (∀ p, Zpl (ZPc P so mn rm tr pl mv cv li fa hs) (Znc P) p = pl p) ∧ (∀ i, Zmv (ZPc P so mn rm tr pl mv cv li fa hs) (Znc P) i = mv i) ∧ (∀ p, Zcv (ZPc P so mn rm tr pl mv cv li fa hs) (Znc P) p = cv p) ∧ Zli (ZPc P so mn rm tr pl mv cv li fa hs) (Znc P) = li ∧ (∀ p, Zfa (ZPc P so mn rm tr pl mv cv li fa hs) (Znc P) p = fa p) ∧ ∀ p, Zhs (ZPc P so mn rm tr pl mv cv li fa hs) (Znc P) p = hs p := by
  refine ⟨?_, ?_, ?_, ?_, fun p => ?_, fun i => ?_, fun p => ?_, ?_, fun p => ?_, fun p => ?_⟩
  · simp only [Zso, ZPc]
    rw [if_pos (by simp)]
  · simp only [Zmn, ZPc]
    rw [if_neg (by omega), if_pos (by simp)]
  · simp only [Zrm, ZPc]
    rw [if_neg (by omega), if_neg (by omega), if_pos (by simp)]
  · simp only [Ztr, ZPc]
    rw [if_neg (by omega), if_neg (by omega), if_neg (by omega), if_pos (by simp)]
  · simp only [Zpl, ZPc]
    rw [if_neg (by omega), if_neg (by omega), if_neg (by omega), if_neg (by omega), if_pos trivial]
  · simp only [Zmv, ZPc]
    rw [if_neg (by omega), if_neg (by omega), if_neg (by omega), if_neg (by omega), if_neg (by omega), if_pos trivial]
  · simp only [Zcv, ZPc]
    rw [if_neg (by omega), if_neg (by omega), if_neg (by omega), if_neg (by omega), if_neg (by omega), if_neg (by omega), if_pos trivial]
  · simp only [Zli, ZPc]
    rw [if_pos (by simp)]
  · simp only [Zfa, ZPc]
    rw [if_neg (by omega), if_pos trivial]
  · simp only [Zhs, ZPc]
    rw [if_neg (by omega), if_neg (by omega), if_pos trivial]
section AC
variable {E E' : Ze} {sh sh' : Nat → Option Zsh} {xs xs' : Zxs} {P P' : ZP} {L : ZL} {st w : zMS} {g : Nat} {n : Nat → Nat} {tg : Nat → Nat → Nat}
theorem Zmor.ok (hP : ZPok P) (h : Zmor P P') (h24 : Znc P < 24) (hc : ZCok P' (Znc P)) : ZPok P' := by
  obtain ⟨h1, h2, h3, h4, h5, h6⟩ := hP
  obtain ⟨m1, m2, m3, m4, m5⟩ := h
  unfold ZPok
  rw [m1, m2]
  refine ⟨h1, by omega, fun v hv => ?_, fun v hv => ?_, fun v hv => ?_, fun c hc' => ?_⟩
  · rw [(m3 v).1]
    exact h3 v hv
  · rw [(m3 v).1, (m3 v).2.1]
    exact h4 v hv
  · rw [(m3 v).1, (m3 v).2.2.1, (m3 v).2.2.2]
    exact h5 v hv
  · rcases Nat.lt_or_ge c (Znc P) with q | q
    · exact (h6 c q).agr (m4 c q) (Nat.le_of_eq m1.symm) fun v _ => (m3 v).1
    · have : c = Znc P := by omega
      rw [this]
      exact hc
theorem ZJ_addc (hR : ZPD E sh xs st P L) (hS : ZSr P xs st) (hm : Zmor P P') (hB : ZB E sh xs P' g n tg) (h24 : Znc P < 24) (n0 : n 0 = Znv P ∧ ∀ i, i < Znv P → tg 0 i = 100 + i) (n1 : n 1 = Znc P ∧ ∀ c, c < Znc P → tg 1 c = 1000 * (c + 1)) (hcon : ZXcon sh xs P' (Znc P)) (hcok : ZCok P' (Znc P)) (hel : Zel sh (1000 * (Znc P + 1))) (hMP : ZMP w P') (fw : ZfM (fun f => f ≤ 23 ∨ f = 68) (fun f => f ≤ 23) st w) :
    ∃ sh' xs' sz', fX1_add_2 (ZW E sh xs) (Zl E (1000000 + 100 * g + (2 * 1 + 3))) (Zl E 1) (Zl E (1000 * (Znc P + 1))) = some (.inr (ZW E sh' xs', sz', nI (Znc P))) ∧ ZPD E sh' xs' w P' L ∧ ZSr P' xs' w ∧ ZB E sh' xs' P' (g + 1) (fun i => if i = 1 then n 1 + 1 else n i) (fun i k => if i = 1 ∧ k = n 1 then 1000 * (Znc P + 1) else tg i k) ∧ Zext sh sh' xs xs' ∧ Zexo E E sh sh' xs xs' := by
  obtain ⟨hP, hr, hb, hX, hM, hld, hdc, hL, hk, h32⟩ := hR
  obtain ⟨m1, m2, m3, m4, m5⟩ := hm
  have hm : Zmor P P' := ⟨m1, m2, m3, m4, m5⟩
  obtain ⟨sh', xs', sz', e1, e2, hB3, hej, hxe3, mm3, x13, hcs3⟩ := ZB_add (E := E) hB (by omega) (by rw [m1]; exact hP.1) (j := 1) (by decide) hel (by omega)
  have t1 : ∀ s, Ztj s 1 = 4 := fun _ => rfl
  rw [t1] at e1
  obtain ⟨x4, hx4⟩ : ∃ x4 : Zxs, x4 = (zua xs'.1 1 10 0, xs'.2) := ⟨_, rfl⟩
  have hB4 := hB3.k10 0
  rw [← hx4] at hB4
  have hm' := hB4.2.2.2.2.2
  have hxe : Zext sh sh' xs x4 := hxe3.trans (by rw [hx4]; exact Zext.k10)
  have l4' := (hB4.2.2.2.1 1 (by decide)).1.li
  have l2' := (hB4.2.2.2.1 0 (by decide)).1.li
  simp only [if_neg (show ¬ 0 = 1 by decide), show (0 = 1) = False from eq_false (by decide), false_and, if_false] at l2'
  simp only [if_true, true_and] at l4'
  have x410 : x4.1 1 10 = 0 := by rw [hx4]; simp only [zua_ss]
  have x41 : ∀ f, f ≠ 10 → x4.1 1 f = xs.1 1 f := fun f hf => by
    rw [hx4]
    simp only [zua_sn hf, x13]
  have hcsA : ∀ c, c < Znc P' → Zso P' c = 3 ∨ Zso P' c = 5 → Zcls3 sh sh' xs x4 c := fun c hc hs => by
    obtain ⟨b1, b2, b3⟩ := hcs3 c hc hs
    refine ⟨b1, b2, ?_⟩
    have : ZtL sh c ≠ 1 := by
      have := (hB.2.2.2.2.1 c hc hs).1.1
      omega
    rw [hx4]
    simp only [zua_n this]
    exact b3
  have hXP : ZXP sh' x4 P' := by
    refine ⟨⟨hm', ⟨Zej sh' 0, ?_⟩, fun v hv' => ?_⟩, ⟨Zej sh' 1, ?_⟩, ?_, fun c hc => ?_⟩
    · rw [m1, ← n0.1]
      exact (show ZLi sh' x4 2 (Zej sh' 0) (n 0) _ from l2').cut fun i hi => (n0.2 i (by rw [← n0.1]; exact hi)).symm
    · rw [m1] at hv'
      obtain ⟨o1, o2, o3, o4⟩ := m3 v
      rw [o1, o2, o3, o4]
      obtain ⟨a, b⟩ := hX.1.2.2 v hv'
      obtain ⟨a1, a2⟩ := hxe.ob a (by omega) (by decide)
      rw [a2]
      exact ⟨a1, b⟩
    · rw [m2, ← n1.1]
      refine (show ZLi sh' x4 4 (Zej sh' 1) (n 1 + 1) _ from l4').cut fun i hi => ?_
      by_cases q : i = n 1
      · rw [if_pos q, q, n1.1]
      · rw [if_neg q, n1.2 i (by omega)]
    · rw [(hxe.ia hb.2.1.2 (by decide)).2]
      exact hX.2.2.1
    · rcases Nat.lt_or_ge c (Znc P) with q | q
      · refine ((hX.2.2.2 c q).agr (m4 c q) fun p hp => (m3 _).1).ext hxe fun hs => hcsA c hc hs
      · have : c = Znc P := by omega
        subst this
        exact hcon.ext hxe fun hs => hcsA _ hc hs
  have hLv : ZLv P' L := fun e he => by
    obtain ⟨a, b, c⟩ := hL e he
    exact ⟨by rw [m1]; exact a, by rw [(m3 _).1]; exact b, c⟩
  refine ⟨sh', x4, sz', ?_, ⟨hm.ok hP h24 hcok, fun v hv' h3 => ?_, hb.ext hxe hm' rfl (fun _ _ => rfl), hXP, hMP, hld.ext hb.2.2.2.2.1 hxe (by decide), ?_, hLv, Or.inl x410, by rw [fw.1 32 (by decide)]; exact h32⟩, ⟨?_, ?_, fun v hv' => ?_, ?_⟩, hB4, hxe, ⟨fun u s h1 h2 h3 h4 h5 => ?_, x41, rfl, fun _ _ => rfl⟩⟩
  · have k0 : sh 1 = some (Zmain sh) := hB.2.2.2.2.2
    have k1 : sh' 1 = some (Zmain sh') := hm'
    have s2 := Zsz hB (show 1 < 6 by decide) xs rfl
    have s2' := Zsz hB3 (show 1 < 6 by decide) (zua xs'.1 1 10 0, xs'.2) (by rw [t1]; simp only [zua_n (show 4 ≠ 1 by decide)])
    rw [t1, n1.1] at s2
    rw [t1] at s2'
    simp only [if_true, n1.1] at s2'
    have o2 := (hB.2.2.2.1 1 (by decide)).1.t
    rw [t1] at o2
    have o2' := (hB3.2.2.2.1 1 (by decide)).1.t
    rw [t1] at o2'
    simp only [fX1_add_2, fX1_hasRoom, Zb0 k0, Option.bind_some, Zb18 o2, s2, if_neg (show ¬ (24 : Int32) ≤ nI (Znc P) from nI_ge (b := 24) h24 (by decide)), fX1_checkState, Zne10, if_false, Zthr_r, e1, Zb0 k1, true_or, if_true, Zb18 o2', s2', nI_pred, hx4]
  · rw [m1] at hv'
    obtain ⟨o1, o2, o3, o4⟩ := m3 v
    rw [o3, o4]
    rw [o1] at h3
    exact hr v hv' h3
  · unfold ZMdc at hdc ⊢
    rw [fw.1 24 (by decide), fw.2 25 (by omega), fw.2 26 (by omega), fw.2 27 (by omega)]
    exact hdc
  · rw [x41 25 (by decide), fw.1 46 (by decide)]
    exact hS.1
  · rw [x41 26 (by decide), fw.1 47 (by decide)]
    exact hS.2.1
  · obtain ⟨p1, p2, p3⟩ := hS.2.2.1 v hv'
    rw [(hxe.ia hb.2.2.2.2.2.2.2.2.2.2.1 (by decide)).2, fw.2 45 (by omega), m1]
    exact ⟨p1, p2, p3⟩
  · have h4 := hS.2.2.2
    unfold Zfnd at h4 ⊢
    rw [x41 24 (by decide), fw.1 48 (by decide), fw.1 49 (by decide), (hxe.ia hb.2.2.2.2.2.2.2.2.2.2.2 (by decide)).2, fw.2 50 (by omega), m1]
    exact h4
  · obtain ⟨-, c2, -⟩ := hB.2.2.2.1 1 (by decide)
    obtain ⟨b1, b2, b3⟩ := hej u s h1 (by rw [t1]; exact h5) (by
      rcases c2 with c2 | c2
      · exact Or.inr c2
      · exact Or.inl (by omega))
    refine ⟨b1, ?_, ?_⟩
    · rw [hx4]
      simp only [zua_n h3]
      exact b2
    · rw [hx4]
      exact b3
/-- no room for a constraint -/
theorem ZX_noroom (hB : ZB E sh xs P g n tg) (h24 : n 1 = 24) (sz a : Nat) : fX1_add_2 (ZW E sh xs) sz (Zl E 1) a = some (.inl (2, ZW E sh xs)) := by
  have k0 : sh 1 = some (Zmain sh) := hB.2.2.2.2.2
  have s2 := Zsz hB (show 1 < 6 by decide) xs rfl
  have t1 : ∀ s, Ztj s 1 = 4 := fun _ => rfl
  rw [t1, h24] at s2
  have o2 := (hB.2.2.2.1 1 (by decide)).1.t
  rw [t1] at o2
  simp only [fX1_add_2, fX1_hasRoom, Zb0 k0, Option.bind_some, Zb18 o2, s2, if_pos (show (24 : Int32) ≤ nI 24 by decide), fX1_checkState, if_true, Zthr_l]
end AC
