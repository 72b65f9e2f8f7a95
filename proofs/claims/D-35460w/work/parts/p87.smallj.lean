/-! relations told: joined -/
set_option maxRecDepth 100000
section SJ
variable {E : Ze} {sh sh' : Nat → Option Zsh} {xs xs' : Zxs} {P P' Q : ZP} {L : ZL} {st w : zMS} {g : Nat} {n : Nat → Nat} {tg : Nat → Nat → Nat}
theorem ZB.pr3 (h : ZB E sh xs Q g n tg) (h1 : Znv Q = Znv P') (h2 : Znc Q = Znc P') (h3 : ∀ c, c < Znc P' → Zso P' c = 3 ∨ Zso P' c = 5 → Zso Q c = Zso P' c) : ZB E sh xs P' g n tg := by
  obtain ⟨a, b, c, d, e, f⟩ := h
  refine ⟨a, fun t ht => (b t ht).up (Nat.le_of_eq h1) (Nat.le_of_eq h2) (Nat.le_refl _), c, d, fun q hq hs => e q (by omega) (by rw [h3 q hq hs]; exact hs), f⟩
/-- with room -/
theorem ZJ_small (hR : ZPD E sh xs st P L) (hS : ZSr P xs st) (hro : ZRo sh xs st P n tg) (hroom : Znc P < 24) (hB : ZB E sh xs (ZPd P) g n tg) {so : Nat} (hso : 7 ≤ so ∧ so ≤ 17) {pl pv : Nat → Nat} (hp : ∀ p, p < Zrn so → pl p < Znv P ∧ Zkd P (pl p) = Zrk so p) (hpp : ∀ p, p < Zrn so → pv p = pl (if so = 12 ∨ so = 13 then 1 - p else p)) {rt pa sz : Nat} (hrt : ZXrel sh xs so rt) (hrt2 : rt = 1000 * (Znc P + 1) + 5 ∨ 50400 ≤ rt) (hpa : sh pa = some (Zia 0 (Zrn so))) (hpv : ∀ i, i < Zrn so → xs.2 pa i = nI (pv i)) (free : ∀ i, i ≤ 4 → sh (1000 * (Znc P + 1) + i) = none) (z0 : Zl E (1000000 + 100 * g + 60) = sz) (z1 : Zl E (1000000 + 100 * g + 61) = sz + 1) (z2 : ∀ i, i ≤ 4 → Zl E (1000 * (Znc P + 1) + i) = sz + 2 + i) (z7 : Zl E (1000000 + 100 * (g + 1) + (2 * 1 + 3)) = sz + 7) (hMP : ZMP w (ZPs P so pl)) (fw : ZfM (fun f => f = 15 ∨ f = 68) (fun f => 16 ≤ f ∧ f ≤ 18) st w) (N : Nat) (hN : 1000 ≤ N) :
    ∃ sh' xs' sz', fX1_addSmall N (ZW E sh xs) sz (Zl E 1) (Zl E rt) (Zl E pa) = some (.inr (ZW E sh' xs', sz', nI (Znc P))) ∧ ZA E sh' xs' w (ZPs P so pl) L (g + 2) ∧ Zexo E E sh sh' xs xs' := by
  have hP := hR.1
  have hn := hP.1
  have hmor : Zmor P (ZPs P so pl) := ZPc_mor hroom
  obtain ⟨p1, p2, p3, p4, p5, p6, p7, p8, p9, p10⟩ := ZPc_new (P := P) hroom (so := so) (mn := Zrn so) (rm := 0) (tr := 0) (pl := pl) (mv := fun _ => 0) (cv := fun _ => 0) (li := 0) (fa := fun _ => 0) (hs := fun _ => 0)
  have hrn : Zrn so = 2 ∨ Zrn so = 3 := by unfold Zrn; split <;> simp
  have hso0 : Zso (ZPs P so pl) (Znc P) = so := p1
  obtain ⟨d1, d2, d3, d4⟩ := ZPd_f hroom
  have hrtn : sh rt ≠ none := by
    unfold ZXrel at hrt
    split at hrt
    · rw [hrt.1]; exact fun h => by cases h
    · rw [hrt]; exact fun h => by cases h
  have hpv128 : ∀ i, i < Zrn so → pv i < 128 := fun i hi => by
    rw [hpp i hi]
    have h1 : (if so = 12 ∨ so = 13 then 1 - i else i) < Zrn so := by
      split
      · omega
      · exact hi
    have := (hp _ h1).1
    omega
  have ft : ∀ k, k < 100 → sh (1000000 + 100 * g + k) = none := fun k hk => hB.free (by unfold Zdt; rw [d1, d2]; omega)
  obtain ⟨sh3, x3, e1, shut3, keep3, dom3, c3, a3, pv3⟩ := ZX_small (E := E) hB.1 hB.2.2.1 (t := 1000000 + 100 * g + 60) (T := 1000000 + 100 * g + 61) (c0 := 1000 * (Znc P + 1)) (by omega) rfl (by omega) ⟨ft 60 (by decide), ft 61 (by decide), free⟩ hpa (by omega) (fun i hi => ⟨hpv i hi, hpv128 i hi⟩) hrtn z0 z1 z2 N hN (by omega) hB.2.2.2.2.2
  have hBp : ZB E sh xs (ZPs P so pl) g n tg := hB.pr3 (by rw [d1, hmor.1]) (by rw [d2, hmor.2.1]) fun c hc hs => by
    rw [hmor.2.1] at hc
    rcases Nat.lt_or_ge c (Znc P) with q | q
    · rw [d3 c q, (hmor.2.2.2.1 c q).1]
    · have : c = Znc P := by omega
      rw [this, hso0] at hs
      omega
  obtain ⟨hB3, hxe3, ho3, m3, x13, hcs3, -⟩ := ZB_ext (sh' := sh3) (xs' := x3) hBp (g' := g + 1) keep3 shut3 (fun t ht => by
    rcases dom3 t ht with q | q | q | q
    · exact (hBp.2.1 t q).up (Nat.le_refl _) (Nat.le_refl _) (Nat.le_succ _)
    · rw [q]; unfold Zdt; omega
    · rw [q]; unfold Zdt; omega
    · unfold Zdt
      rw [hmor.2.1]
      omega)
  have k2 := (hB3.2.2.2.1 0 (by decide)).1.li
  have k4 := (hB3.2.2.2.1 1 (by decide)).1.li
  rw [hro.1.1] at k2
  rw [hro.2.1.1] at k4
  have hcsP : ∀ c, c < Znc P → Zso P c = 3 ∨ Zso P c = 5 → Zcls3 sh sh3 xs x3 c := fun c hc hs => hcs3 c (by rw [hmor.2.1]; omega) (by rw [(hmor.2.2.2.1 c hc).1]; exact hs)
  obtain ⟨hR3, hS3⟩ := ZPD_ext hR hS hxe3 hB3.2.2.2.2.2 ⟨_, k2.cut fun i hi => (hro.1.2 i hi).symm⟩ ⟨_, k4.cut fun i hi => (hro.2.1.2 i hi).symm⟩ hcsP x13
  have hel : Zel sh3 (1000 * (Znc P + 1)) := ⟨13, _, c3, by decide⟩
  have hcon : ZXcon sh3 x3 (ZPs P so pl) (Znc P) := by
    unfold ZXcon
    rw [hso0]
    have hmn : Zmn (ZPs P so pl) (Znc P) = Zrn so := p2
    have hpl : ∀ p, Zpl (ZPs P so pl) (Znc P) p = pl p := p5
    refine ⟨⟨13, _, c3, by decide, by rw [hmn]; exact a3 1 (by decide) (by decide), by rw [hmn]; exact a3 2 (by decide) (by decide), by rw [hmn]; exact a3 3 (by decide) (by decide), by rw [hmn]; exact a3 4 (by decide) (by decide), fun p hp' => ?_⟩, fun h => by omega, fun h => by omega, fun h => by omega, fun h => by omega, fun h => by omega, fun h => by omega, fun h => by omega, fun _ => ?_⟩
    · rw [hmn] at hp'
      rw [pv3 p hp', hpp p hp', hpl]
      unfold Zpm
      rw [hso0]
    · unfold ZX7
      rw [hso0]
      refine ⟨rt, c3, ?_, hrt2⟩
      obtain ⟨q1, q2, -⟩ := keep3 rt hrtn
      unfold ZXrel at hrt ⊢
      rw [q1, q2]
      exact hrt
  obtain ⟨sh5, x5, sz5, e5, hR5, hS5, hB5, hxe5, ho5⟩ := ZJ_addc (E := E) hR3 hS3 hmor hB3 hroom ⟨hro.1.1, hro.1.2⟩ ⟨hro.2.1.1, hro.2.1.2⟩ hcon (ZPs_ok hroom hso hp) hel hMP (fw.mono (fun f q => by omega) (fun f q => by omega))
  rw [z7] at e5
  refine ⟨sh5, x5, sz5, ?_, ⟨_, _, hR5, hS5, hB5, ?_⟩, ho3.trans ho5 fun t ht => by rw [(keep3 t ht).1]; exact ht⟩
  · rw [e1, e5, Zthr_r]
  · have hro3 := (hro.mono hxe3 (ZfM.rfl (st := st))).mono hxe5 (fw.mono (fun f q => by omega) (fun f q => by omega))
    obtain ⟨⟨q0, q0'⟩, ⟨q1, q1'⟩, q2, q3, q4, q5a, q5b, q5c⟩ := hro3
    unfold ZRo
    rw [hmor.1, hmor.2.1]
    simp only [if_true, true_and, if_neg (show ¬ 0 = 1 by decide), if_neg (show ¬ 2 = 1 by decide), if_neg (show ¬ 3 = 1 by decide), if_neg (show ¬ 4 = 1 by decide), if_neg (show ¬ 5 = 1 by decide), show (0 = 1) = False from eq_false (by decide), show (2 = 1) = False from eq_false (by decide), show (3 = 1) = False from eq_false (by decide), show (4 = 1) = False from eq_false (by decide), show (5 = 1) = False from eq_false (by decide), false_and, if_false]
    refine ⟨⟨q0, q0'⟩, ⟨by rw [q1], fun c hc => ?_⟩, q2, q3, q4, q5a, q5b, fun i hi => ?_⟩
    · by_cases q : c = n 1
      · rw [if_pos q, q, q1]
      · rw [if_neg q]
        exact q1' c (by rw [q1] at q; omega)
    · obtain ⟨a, b, v, kk, bb, c1, c2, c3'⟩ := q5c i hi
      exact ⟨a, b, v, kk, bb, c1, by rw [(hmor.2.2.1 v).1]; exact c2, c3'⟩
/-- no room: garbage -/
theorem ZJ_smallx (hR : ZPD E sh xs st P L) (hS : ZSr P xs st) (hro : ZRo sh xs st P n tg) (hfull : Znc P = 24) (hB : ZB E sh xs P g n tg) {m rt pa sz : Nat} (hm : 1 ≤ m ∧ m ≤ 3) {pv : Nat → Nat} (hrt : sh rt ≠ none) (hpa : sh pa = some (Zia 0 m)) (hpv : ∀ i, i < m → xs.2 pa i = nI (pv i) ∧ pv i < 128) (z0 : Zl E (1000000 + 100 * g + 60) = sz) (z1 : Zl E (1000000 + 100 * g + 61) = sz + 1) (z2 : ∀ i, i ≤ 4 → Zl E (1000000 + 100 * g + 70 + i) = sz + 2 + i) (N : Nat) (hN : 1000 ≤ N) :
    ∃ sh' xs', fX1_addSmall N (ZW E sh xs) sz (Zl E 1) (Zl E rt) (Zl E pa) = some (.inl (2, ZW E sh' xs')) ∧ ZA E sh' xs' st P L (g + 1) ∧ Zexo E E sh sh' xs xs' := by
  have hP := hR.1
  have hn := hP.1
  have ft : ∀ k, k < 100 → sh (1000000 + 100 * g + k) = none := fun k hk => hB.free (by unfold Zdt; omega)
  obtain ⟨sh3, x3, e1, shut3, keep3, dom3, c3, a3, pv3⟩ := ZX_small (E := E) hB.1 hB.2.2.1 (t := 1000000 + 100 * g + 60) (T := 1000000 + 100 * g + 61) (c0 := 1000000 + 100 * g + 70) (by omega) rfl (by omega) ⟨ft 60 (by decide), ft 61 (by decide), fun i hi => by rw [Nat.add_assoc]; exact ft (70 + i) (by omega)⟩ hpa hm.2 hpv hrt z0 z1 z2 N hN hm.1 hB.2.2.2.2.2
  obtain ⟨hB3, hxe3, ho3, m3, x13, hcs3, -⟩ := ZB_ext (sh' := sh3) (xs' := x3) hB (g' := g + 1) keep3 shut3 (fun t ht => by
    rcases dom3 t ht with q | q | q | q
    · exact (hB.2.1 t q).up (Nat.le_refl _) (Nat.le_refl _) (Nat.le_succ _)
    · rw [q]; unfold Zdt; omega
    · rw [q]; unfold Zdt; omega
    · unfold Zdt
      omega)
  have hro3 := hro.mono hxe3 (ZfM.rfl (st := st))
  obtain ⟨l2, l4⟩ := hB3.li2 hro3
  obtain ⟨hR3, hS3⟩ := ZPD_ext hR hS hxe3 hB3.2.2.2.2.2 l2 l4 hcs3 x13
  refine ⟨sh3, x3, ?_, ⟨n, tg, hR3, hS3, hB3, hro3⟩, ho3⟩
  rw [e1, ZX_noroom hB3 (by rw [hro.2.1.1, hfull]), Zthr_l]
end SJ
