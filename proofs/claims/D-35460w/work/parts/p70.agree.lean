/-! a problem grows -/
set_option maxRecDepth 100000
/-- what P says of a constraint -/
def Zagc (P P' : ZP) (c : Nat) : Prop := Zso P' c = Zso P c ∧ Zmn P' c = Zmn P c ∧ Zrm P' c = Zrm P c ∧ Ztr P' c = Ztr P c ∧ (∀ p, Zpl P' c p = Zpl P c p) ∧ (∀ i, Zmv P' c i = Zmv P c i) ∧ (∀ p, Zcv P' c p = Zcv P c p) ∧ Zli P' c = Zli P c ∧ (∀ p, Zfa P' c p = Zfa P c p) ∧ (∀ p, Zhs P' c p = Zhs P c p) ∧ ∀ t, Zsy P' t = Zsy P t
def Zagv (P P' : ZP) (v : Nat) : Prop := Zkd P' v = Zkd P v ∧ Ztd P' v = Ztd P v ∧ Zfm P' v = Zfm P v ∧ Zto P' v = Zto P v
section AG
variable {sh sh' : Nat → Option Zsh} {xs xs' : Zxs} {P P' : ZP} {c : Nat}
theorem Zpm_agr (h : Zagc P P' c) (p : Nat) : Zpm P' c p = Zpm P c p := by unfold Zpm; rw [h.1]
theorem ZXcon.agr (h : ZXcon sh xs P c) (a : Zagc P P' c) (hk : ∀ p, p < Zmn P c → Zkd P' (Zpl P c p) = Zkd P (Zpl P c p)) : ZXcon sh xs P' c := by
  obtain ⟨a1, a2, a3, a4, a5, a6, a7, a8, a9, a10, a11⟩ := a
  have hpm : ∀ p, Zpm P' c p = Zpm P c p := fun p => by unfold Zpm; rw [a1]
  obtain ⟨c0, c1, c2, c3, c4, c5, c6, c7, c8⟩ := h
  unfold ZXcon
  rw [a1]
  refine ⟨?_, fun hs => ?_, c2, c3, fun hs => ?_, c5, fun hs => ?_, fun hs => ?_, fun hs => ?_⟩
  · obtain ⟨ci, fs, h1, h2, h3, h4, h5, h6, h7⟩ := c0
    unfold ZX0
    rw [a2]
    exact ⟨ci, fs, h1, h2, h3, h4, h5, h6, fun p hp => by rw [hpm, a5]; exact h7 p hp⟩
  · obtain ⟨h1, h2, h3, h4, h5, h6⟩ := c1 hs
    unfold ZX8
    rw [a2, a8, a10]
    exact ⟨h1, h2, h3, h4, h5, fun p hp => by rw [a9, a5, hk p hp]; exact h6 p hp⟩
  · obtain ⟨h1, h2, h3, h4, h5, h6, h7, h8⟩ := c4 hs
    unfold ZX3
    rw [a3, a8]
    exact ⟨h1, h2, h3, h4, h5, fun i hi => by rw [a6, a6, a6]; exact h6 i hi, h7, h8⟩
  · obtain ⟨h1, h2, h3, h4, h5⟩ := c6 hs
    unfold ZX5
    rw [a2]
    exact ⟨h1, h2, fun i hi => by rw [a7, a10]; exact h3 i hi, h4, h5⟩
  · unfold ZX6
    rw [a4, a11]
    exact c7 hs
  · unfold ZX7
    rw [a1]
    exact c8 hs
/-- M's part of a constraint -/
def ZMc (st : zMS) (P : ZP) (c : Nat) : Prop := st.2 16 c = nI (Zso P c) ∧ st.2 17 c = nI (Zmn P c) ∧ (∀ p, p < Zmn P c → st.2 18 (8 * c + p) = nI (Zpl P c p)) ∧
    (Zso P c = 0 → (∀ p, p < Zmn P c → st.2 19 (6 * c + p) = Zfa P c p) ∧ st.2 20 c = Zli P c ∧ st.2 23 (6 * c) = Zhs P c 0) ∧
    (Zso P c = 3 → st.2 20 c = Zli P c ∧ st.2 21 c = nI (Zrm P c) ∧ ∀ i, i < 3 * Zrm P c → st.2 22 (48 * c + i) = nI (Zmv P c i)) ∧
    (Zso P c = 5 → ∀ p, p < Zmn P c → st.2 19 (6 * c + p) = nI (Zcv P c p) ∧ st.2 23 (6 * c + p) = Zhs P c p) ∧
    (Zso P c = 6 → st.2 20 c = nI (Ztr P c) ∧ ∃ r k, k < 16 ∧ Zrt (st.2 65) r k (Ztr P c) ∧ st.2 66 r = nI (Zsy P (Ztr P c)))
theorem ZMc.agr {st : zMS} (h : ZMc st P c) (a : Zagc P P' c) : ZMc st P' c := by
  obtain ⟨a1, a2, a3, a4, a5, a6, a7, a8, a9, a10, a11⟩ := a
  unfold ZMc at h ⊢
  simp only [a1, a2, a3, a4, a5, a6, a7, a8, a9, a10, a11]
  exact h
theorem ZCok.agr (h : ZCok P c) (a : Zagc P P' c) (hn : Znv P ≤ Znv P') (hk : ∀ v, v < Znv P → Zkd P' v = Zkd P v) : ZCok P' c := by
  obtain ⟨a1, a2, a3, a4, a5, a6, a7, a8, a9, a10, a11⟩ := a
  have hp := h.2.2.1
  have hkp : ∀ p, p < Zmn P c → Zkd P' (Zpl P c p) = Zkd P (Zpl P c p) := fun p h => hk _ (hp p h)
  obtain ⟨h1, h2, h3, h4, h5, h6, h7, h8, h9, h10, h11, h12⟩ := h
  unfold ZCok
  simp only [a1, a2, a3, a4, a5, a6, a7, a8, a9, a10, a11]
  refine ⟨h1, h2, fun p hp => Nat.lt_of_lt_of_le (h3 p hp) hn, h4, fun hs => ?_, h6, h7, h8, fun g1 g2 p hp => by rw [hkp p hp]; exact h9 g1 g2 p hp, fun hs => ?_, fun hs => ?_, fun hs => ?_⟩
  · obtain ⟨b1, b2, b3⟩ := h5 hs
    exact ⟨b1, fun p hp => by rw [hkp p hp]; exact b2 p hp, b3⟩
  · obtain ⟨b1, b2⟩ := h10 hs
    exact ⟨b1, fun p hp => by rw [hkp p hp]; exact b2 p hp⟩
  · obtain ⟨b1, b2, b3⟩ := h11 hs
    exact ⟨b1, by rw [hkp 0 (by omega)]; exact b2, b3⟩
  · obtain ⟨b1, b2⟩ := h12 hs
    exact ⟨b1, fun p hp => by rw [hkp p hp]; exact b2 p hp⟩
end AG
