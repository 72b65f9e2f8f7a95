/-! searches, of both -/
set_option maxRecDepth 100000
/-- a loop's body goes on so many times -/
def Zsteps {α β : Type} (body : α → Option (α ⊕ β)) : Nat → α → α → Prop
  | 0, a, b => a = b
  | j + 1, a, b => ∃ c, body a = some (.inl c) ∧ Zsteps body j c b
theorem Zsteps_add {α β : Type} {body : α → Option (α ⊕ β)} : ∀ {i j k : Nat} {a b c : α}, Zsteps body i a b → Zsteps body j b c → i + j = k → Zsteps body k a c := by
  intro i
  induction i with
  | zero =>
    intro j k a b c h1 h2 e
    rw [Nat.zero_add] at e
    subst e
    cases h1
    exact h2
  | succ i ih =>
    intro j k a b c h1 h2 e
    obtain ⟨x, hx, h1⟩ := h1
    obtain ⟨k, rfl⟩ : ∃ q, k = q + 1 := ⟨k - 1, by omega⟩
    exact ⟨x, hx, ih h1 h2 (by omega)⟩
theorem Zsteps_one {α β : Type} {body : α → Option (α ⊕ β)} {a b : α} (h : body a = some (.inl b)) : Zsteps body 1 a b := ⟨b, h, rfl⟩
theorem Zsteps_loop {α β : Type} {body : α → Option (α ⊕ β)} : ∀ {j : Nat} {a b : α}, Zsteps body j a b → ∀ n, zloop body (n + j) a = zloop body n b := by
  intro j
  induction j with
  | zero => rintro a b rfl n; rfl
  | succ j ih =>
    rintro a b ⟨c, h1, h2⟩ n
    show zloop body (n + j + 1) a = _
    simp only [zloop, h1, Option.bind_some]
    exact ih h2 n
/-- what a search may change -/
def ZhA (P : ZP) (t f : Nat) : Prop := ZRA P 36 t f ∨ (t = 1 ∧ 24 ≤ f ∧ f ≤ 32) ∨ (t = 54 ∧ f = 3)
def ZhB (P : ZP) (u : Nat) : Prop := ZRB P 36 u ∨ (55 ≤ u ∧ u ≤ 59)
abbrev ZfH (st st' : zMS) : Prop := ZfM (fun f => f = 28 ∨ f = 32 ∨ f = 37 ∨ f = 38 ∨ f = 39 ∨ (46 ≤ f ∧ f ≤ 49) ∨ f = 51) (fun f => f = 29 ∨ f = 30 ∨ f = 31 ∨ (34 ≤ f ∧ f ≤ 36) ∨ (40 ≤ f ∧ f ≤ 45) ∨ f = 50 ∨ (52 ≤ f ∧ f ≤ 54)) st st'
section SE
variable {sh : Nat → Option Zsh} {P : ZP} {E : Ze} {L : ZL} {ah ch od : Int32}
theorem ZXl_cut {z : Zxs} {t : Nat} {D D' : ZL} (h : ZXl z t (D ++ D')) : ZXl (zua z.1 t 3 (nI D.length), z.2) t D := by
  obtain ⟨h1, h2, h3⟩ := h
  rw [List.length_append] at h2
  exact ⟨by simp only [zua_ss], by omega, Zdd_pre h3⟩
/-- both at a node of a search: n nodes, since the cut, what is left of restarts -/
def ZSq (E : Ze) (sh : Nat → Option Zsh) (xs : Zxs) (st : zMS) (P : ZP) (L : ZL) (ah ch od : Int32) (n cut left sn : Nat) : Prop := ZPD E sh xs st P L ∧ xs.1 1 25 = nI n ∧ st.1 46 = nI n ∧ xs.1 1 26 = st.1 47 ∧ xs.1 1 27 = nI cut ∧ xs.1 1 28 = nI sn ∧ xs.1 1 29 = nI left ∧ (xs.1 1 30 = ah ∧ xs.1 1 31 = ch ∧ xs.1 1 32 = od) ∧ Zph P xs st ∧ sn ≤ n ∧ n ≤ 400 ∧ cut ≤ 3200 ∧ left ≤ 5
/-- small changes of both, on a search's way -/
theorem ZSq.keep {xs z : Zxs} {st w : zMS} {n cut left sn : Nat} (h : ZSq E sh xs st P L ah ch od n cut left sn) (f : Zfr (fun t f => (t = 54 ∧ f = 3) ∨ (t = 1 ∧ f = 24)) (fun u => u = 55 ∨ u = 56 ∨ u = 57 ∨ u = 59) xs z) (g : ZfM (fun f => f = 48 ∨ f = 49 ∨ f = 51) (fun f => f = 50 ∨ (52 ≤ f ∧ f ≤ 54)) st w) : ZSq E sh z w P L ah ch od n cut left sn := by
  obtain ⟨hR, q1, q2, q3, q4, q5, q6, ⟨q7, q8, q9⟩, q10, q11⟩ := h
  have e : ∀ k, k ≠ 24 → z.1 1 k = xs.1 1 k := fun k hk => f.1 1 k (by omega)
  refine ⟨hR.gen (f.mono (fun t f q => ⟨Or.inl (by omega), by omega, by omega, by omega⟩) fun u q => ⟨Or.inl (by omega), by omega, by omega⟩) (g.mono (fun f q => by unfold ZMf; omega) (fun f q => by unfold ZMf; omega)) ?_, by rw [e 25 (by decide)]; exact q1, by rw [g.1 46 (by omega)]; exact q2, by rw [e 26 (by decide), g.1 47 (by omega)]; exact q3, by rw [e 27 (by decide)]; exact q4, by rw [e 28 (by decide)]; exact q5, by rw [e 29 (by decide)]; exact q6, ⟨by rw [e 30 (by decide)]; exact q7, by rw [e 31 (by decide)]; exact q8, by rw [e 32 (by decide)]; exact q9⟩, q10.fr (f.2 58 (by omega)) (g.2 45 (by omega)), q11⟩
  rw [g.1 32 (by omega)]
  exact hR.2.2.2.2.2.2.2.2.2
theorem ZX_isCut {xs : Zxs} (hb : Zbase E sh) {cut left sn : Nat} (h1 : xs.1 1 27 = nI cut) (h2 : xs.1 1 28 = nI sn) (h3 : xs.1 1 29 = nI left) (k1 : cut < 10000) (k2 : sn < 10000) (k3 : left < 10000) : (0 < left ∧ cut ≤ sn → fX1_isCut (ZW E sh xs) (Zl E 1) = some 1) ∧ (¬ (0 < left ∧ cut ≤ sn) → fX1_isCut (ZW E sh xs) (Zl E 1) = some 0) := by
  constructor
  · rintro ⟨a, b⟩
    simp only [fX1_isCut, Zb0 hb.1, h1, h2, h3, Option.bind_some, if_neg (show ¬ nI left ≤ 0 from nI_ge (a := 0) a (by omega)), if_neg (nI_nlt b (by omega))]
  · intro h
    by_cases a : 0 < left
    · have b : sn < cut := by omega
      simp only [fX1_isCut, Zb0 hb.1, h1, h2, h3, Option.bind_some, if_neg (show ¬ nI left ≤ 0 from nI_ge (a := 0) a (by omega)), if_pos (nI_lt b (by omega))]
    · have b : left = 0 := by omega
      subst b
      simp only [fX1_isCut, Zb0 hb.1, h3, Option.bind_some, if_pos (show nI 0 ≤ 0 by decide)]
/-- how a search from a node ends: nothing, a cut, a solution, broken off -/
def ZSout (E : Ze) (sh : Nat → Option Zsh) (P : ZP) (L : ZL) (ah ch od : Int32) (N n cut left sn : Nat) (R : ZL) (st : zMS) (z : Zxs) (r : Int32) : Prop :=
  ZXl z 54 (L ++ R) ∧ ∃ w n' sn', ZSq E sh z w P L ah ch od n' cut left sn' ∧ n ≤ n' ∧ ZfH st w ∧
  ((r = 1 ∧ n < n' ∧ (0 < left → sn' < cut) ∧ Zsteps (fX5_search_L111 N ah ch od) (n' - n) (st, nI sn, nI cut, nI left) (w, nI sn', nI cut, nI left) ∧ z.1 1 24 = -1 ∧ ((Zback R = none ∧ w.1 48 = 1) ∨ ∃ R', Zback R = some R' ∧ ZMpa w R' ∧ w.1 48 = -1)) ∨
  (r = 1 ∧ n < n' ∧ 0 < left ∧ cut ≤ sn' ∧ Zsteps (fX5_search_L111 N ah ch od) (n' - n) (st, nI sn, nI cut, nI left) (w, (0 : Int32), nI cut * 2, nI left + (-1)) ∧ z.1 1 24 = -1 ∧ w.1 48 = -1 ∧ ZMpa w []) ∨
  (r = 0 ∧ ∃ q, Zsteps (fX5_search_L111 N ah ch od) (n' - n) (st, nI sn, nI cut, nI left) (w, q) ∧ w.1 48 = 0 ∧ Zfnd P z w) ∨
  (r = 2 ∧ ∃ q, Zsteps (fX5_search_L111 N ah ch od) (n' - n + 1) (st, nI sn, nI cut, nI left) (w, q) ∧ w.1 48 = 2 ∧ z.1 1 24 = -1))
theorem ZSq.node {xs : Zxs} {st : zMS} {n cut left sn : Nat} {R : ZL} (h : ZSq E sh xs st P L ah ch od n cut left sn) (hn : n < 400) (hp : ZMpa st R) (hl : ZXl xs 54 (L ++ R)) (hLR : ZLv P R) (N : Nat) (hN : 5000 ≤ N) :
    ∃ z w, fX1_look N (ZW E sh (zua xs.1 1 25 (nI (n + 1)), xs.2)) (Zl E 1) (Zl E 54) = some (ZW E sh z) ∧ fX5_findsNode N (zps st 46 (nI (n + 1))) = some w ∧ Zfr (ZhA P) (ZhB P) xs z ∧ ZfH st w ∧ ZSq E sh z w P L ah ch od (n + 1) cut left sn ∧ Znode P z w ∧ ZMpa w R ∧ ZXl z 54 (L ++ R) ∧ z.1 1 24 = xs.1 1 24 ∧ w.1 48 = st.1 48 := by
  obtain ⟨hR, q1, q2, q3, q4, q5, q6, ⟨q7, q8, q9⟩, q10, q11, q12, q13, q14⟩ := h
  obtain ⟨y, hy⟩ : ∃ y : Zxs, y = (zua xs.1 1 25 (nI (n + 1)), xs.2) := ⟨_, rfl⟩
  obtain ⟨s, hs⟩ : ∃ s : zMS, s = zps st 46 (nI (n + 1)) := ⟨_, rfl⟩
  have fy : Zfr (fun t f => t = 1 ∧ f = 25) (fun _ => False) xs y := by rw [hy]; exact Zfr.num Zfr.rfl ⟨rfl, rfl⟩
  have fs : ZfM (fun f => f = 46) (fun _ => False) st s := by rw [hs]; exact ZfM.num ZfM.rfl rfl
  have y25 : y.1 1 25 = nI (n + 1) := by subst hy; simp only [zua_ss]
  have s46 : s.1 46 = nI (n + 1) := by subst hs; simp only [zps, zus_s]
  have hRy : ZPD E sh y s P L := hR.gen (fy.mono (fun t f q => ⟨Or.inl (by omega), by omega, by omega, by omega⟩) fun u q => absurd q (fun q => q)) (fs.mono (fun f q => by unfold ZMf; omega) (fun f q => absurd q (fun q => q))) (by rw [fs.1 32 (by omega)]; exact hR.2.2.2.2.2.2.2.2.2)
  have hps : ZMpa s R := hp.fr fs (by omega) (fun i _ _ q => q)
  have hly : ZXl y 54 (L ++ R) := hl.fr fy (by omega) (fun q => q) (fun q => q) (fun q => q)
  obtain ⟨z, w, g1, g2, g3, g4, g5, g6, g7⟩ := ZJ_node hRy hps hly hLR N hN
  rw [← hy, ← hs]
  have hnc := hR.1.2.1
  have nB : ∀ u, 54 ≤ u → u < 60 → ¬ ZRB P 36 u := by
    rintro u a b (q | q | q | q | q | q | q | q | ⟨c, hc, q⟩)
    any_goals omega
    exact ZKB_no (by omega) (show c < 24 by omega) q
  have nA : ¬ ZRA P 36 54 3 := by
    rintro (q | q | ⟨c, -, q⟩)
    · omega
    · omega
    · exact ZKA_no (by omega) q
  have e : ∀ k, k ≠ 25 → z.1 1 k = xs.1 1 k := fun k hk => by rw [g4]; exact fy.1 1 k (by omega)
  refine ⟨z, w, g1, g2, (fy.mono (fun t f q => Or.inr (by omega)) (fun u q => absurd q (fun q => q))).trans (g3.mono (fun t f q => Or.inl q) fun u q => Or.inl q), (fs.mono (fun f q => by omega) (fun f q => absurd q (fun q => q))).trans (g5.mono (fun f q => by omega) (fun f q => by omega)), ?_, g7, hps.fr g5 (by omega) (fun i _ _ => by omega), hly.fr g3 nA (nB 55 (by omega) (by omega)) (nB 56 (by omega) (by omega)) (nB 57 (by omega) (by omega)), e 24 (by decide), ?_⟩
  · refine ⟨g6, by rw [g4]; exact y25, by rw [g5.1 46 (by omega)]; exact s46, ?_, by rw [e 27 (by decide)]; exact q4, by rw [e 28 (by decide)]; exact q5, by rw [e 29 (by decide)]; exact q6, ⟨by rw [e 30 (by decide)]; exact q7, by rw [e 31 (by decide)]; exact q8, by rw [e 32 (by decide)]; exact q9⟩, q10.fr ?_ ?_, by omega, by omega, q13, q14⟩
    · rw [e 26 (by decide), g5.1 47 (by omega), fs.1 47 (by omega)]
      exact q3
    · rw [g3.2 58 (nB 58 (by omega) (by omega))]
      exact fy.2 58 (fun q => q)
    · rw [g5.2 45 (by omega)]
      exact fs.2 45 (fun q => q)
  · rw [g5.1 48 (by omega)]
    exact fs.1 48 (by omega)
/-- one decision up -/
theorem ZSout.up (hb : Zbase E sh) {N n n1 cut left sn sn1 j : Nat} {R : ZL} {e : Nat × Nat × Bool} {st st1 : zMS} {z : Zxs} {r : Int32} (h : ZSout E sh P L ah ch od N n1 cut left sn1 (R ++ [e]) st1 z r) (hs : Zsteps (fX5_search_L111 N ah ch od) j (st, nI sn, nI cut, nI left) (st1, nI sn1, nI cut, nI left)) (hj : j + n = n1) (fs : ZfH st st1) :
    (ZSout E sh P L ah ch od N n cut left sn R st (zua z.1 54 3 (nI (L ++ R).length), z.2) r ∧ (e.2.2 = true → r = 1 → fX1_isCut (ZW E sh (zua z.1 54 3 (nI (L ++ R).length), z.2)) (Zl E 1) = some 1)) ∨
    (e.2.2 = true ∧ r = 1 ∧ fX1_isCut (ZW E sh (zua z.1 54 3 (nI (L ++ R).length), z.2)) (Zl E 1) = some 0 ∧ ZXl (zua z.1 54 3 (nI (L ++ R).length), z.2) 54 (L ++ R) ∧ ∃ w n' sn', ZSq E sh (zua z.1 54 3 (nI (L ++ R).length), z.2) w P L ah ch od n' cut left sn' ∧ n1 < n' ∧ ZfH st w ∧ (0 < left → sn' < cut) ∧ Zsteps (fX5_search_L111 N ah ch od) (n' - n) (st, nI sn, nI cut, nI left) (w, nI sn', nI cut, nI left) ∧ z.1 1 24 = -1 ∧ ZMpa w (R ++ [(e.1, e.2.1, false)]) ∧ w.1 48 = -1) := by
  obtain ⟨hl, w, n', sn', hq, hn', fw, hc⟩ := h
  rw [← List.append_assoc] at hl
  have hl' := ZXl_cut hl
  obtain ⟨y, hy⟩ : ∃ y : Zxs, y = (zua z.1 54 3 (nI (L ++ R).length), z.2) := ⟨_, rfl⟩
  rw [← hy] at hl' ⊢
  have fy : Zfr (fun t f => (t = 54 ∧ f = 3) ∨ (t = 1 ∧ f = 24)) (fun u => u = 55 ∨ u = 56 ∨ u = 57 ∨ u = 59) z y := by rw [hy]; exact Zfr.num Zfr.rfl (by omega)
  have y1 : ∀ k, y.1 1 k = z.1 1 k := fun k => by rw [hy]; simp only [zua_n (show 1 ≠ 54 by decide)]
  have y59 : y.2 = z.2 := by rw [hy]
  have hqy := hq.keep fy ZfM.rfl
  have hqy0 := hqy
  obtain ⟨-, -, -, -, k27, k28, k29, -, -, b1, b2, b3, b4⟩ := hqy
  obtain ⟨ic1, ic0⟩ := ZX_isCut (E := E) hb k27 k28 k29 (by omega) (by omega) (by omega)
  have fw' := fs.trans fw
  have hfnd : Zfnd P z w → Zfnd P y w := by
    unfold Zfnd
    rw [y1, y59]
    exact id
  rcases hc with ⟨rfl, c1, c2, c3, c4, c5⟩ | ⟨rfl, c1, c2, c3, c4, c5, c6, c7⟩ | ⟨rfl, q, c3, c4, c5⟩ | ⟨rfl, q, c3, c4, c5⟩
  · obtain ⟨v, k, b⟩ := e
    cases b with
    | true =>
      rcases c5 with ⟨g, -⟩ | ⟨R', g, g2, g3⟩
      · rw [Zback_t] at g
        cases g
      · rw [Zback_t] at g
        cases g
        exact Or.inr ⟨rfl, rfl, ic0 (by omega), hl', w, n', sn', hqy0, c1, fw', c2, Zsteps_add hs c3 (by omega), c4, g2, g3⟩
    | false =>
      rw [Zback_f] at c5
      exact Or.inl ⟨⟨hl', w, n', sn', hqy0, by omega, fw', Or.inl ⟨rfl, by omega, c2, Zsteps_add hs c3 (by omega), by rw [y1]; exact c4, c5⟩⟩, fun h => Bool.noConfusion h⟩
  · exact Or.inl ⟨⟨hl', w, n', sn', hqy0, by omega, fw', Or.inr (Or.inl ⟨rfl, by omega, c2, c3, Zsteps_add hs c4 (by omega), by rw [y1]; exact c5, c6, c7⟩)⟩, fun _ _ => ic1 ⟨c2, c3⟩⟩
  · exact Or.inl ⟨⟨hl', w, n', sn', hqy0, by omega, fw', Or.inr (Or.inr (Or.inl ⟨rfl, q, Zsteps_add hs c3 (by omega), c4, hfnd c5⟩))⟩, fun _ h => absurd h (by decide)⟩
  · exact Or.inl ⟨⟨hl', w, n', sn', hqy0, by omega, fw', Or.inr (Or.inr (Or.inr ⟨rfl, q, Zsteps_add hs c3 (by omega), c4, by rw [y1]; exact c5⟩))⟩, fun _ h => absurd h (by decide)⟩
theorem ZJ_search (N : Nat) (hN : 5000 ≤ N) {cut left : Nat} : ∀ (d n : Nat) (xs : Zxs) (st : zMS) (R : ZL) (sn : Nat), ZSq E sh xs st P L ah ch od n cut left sn → xs.1 1 24 = -1 → st.1 48 = -1 → ZMpa st R → R.length ≤ n → ZXl xs 54 (L ++ R) → ZLv P R → (0 < left → sn < cut) → 401 ≤ d + n →
    ∃ z r, fX1_searchFrom d N (ZW E sh xs) (Zl E 1) = some (ZW E sh z, r) ∧ Zfr (ZhA P) (ZhB P) xs z ∧ ZSout E sh P L ah ch od N n cut left sn R st z r := by
  intro d
  induction d with
  | zero =>
    intro n xs st R sn hq _ _ _ _ _ _ _ h
    have := hq.2.2.2.2.2.2.2.2.2.2.1
    omega
  | succ d ih =>
    intro n xs st R sn hq h24 h48 hp hRn hl hLR hcut hd
    have hq0 := hq
    obtain ⟨hR, q1, q2, q3, q4, q5, q6, ⟨q7, q8, q9⟩, q10, q11, q12, q13, q14⟩ := hq
    have hP := hR.1
    have hb := hR.2.2.1
    have hn10 := hP.1
    have m48 : ¬ 0 ≤ st.1 48 := by rw [h48]; decide
    show ∃ z r, fX1_searchFrom_B (fX1_searchFrom d) N (ZW E sh xs) (Zl E 1) = some (ZW E sh z, r) ∧ _
    by_cases hn : n = 400
    · -- too many nodes
      subst hn
      have e400 : nI 400 = (400 : Int32) := rfl
      rw [e400] at q1 q2
      have es : fX5_search_L111 N ah ch od (st, nI sn, nI cut, nI left) = some (.inl (zps st 48 2, nI sn, nI cut, nI left)) := by
        simp only [fX5_search_L111, if_neg m48, q2, if_true, Option.bind_some]
      refine ⟨xs, 2, ?_, Zfr.rfl, hl, zps st 48 2, 400, sn, hq0.keep Zfr.rfl (ZfM.num ZfM.rfl (by omega)), Nat.le_refl _, ZfM.num ZfM.rfl (by omega), Or.inr (Or.inr (Or.inr ⟨rfl, _, Zsteps_one es, ?_, h24⟩))⟩
      · simp only [fX1_searchFrom_B, Zb0 hb.1, q1, Option.bind_some, if_true]
      · simp only [zps, zus_s]
    · have n400 : ¬ nI n = (400 : Int32) := fun g => hn ((nI_eq (b := 400) (by omega) (by omega)).mp g)
      obtain ⟨z, w, g1, g2, fz, fw, hqz, hnode, hpw, hlz, z24, w48⟩ := hq0.node (by omega) hp hl hLR N hN
      rw [h24] at z24
      rw [h48] at w48
      have hqz0 := hqz
      obtain ⟨hRz, p1, p2, p3, p4, p5, p6, ⟨p7, p8, p9⟩, p10, p11, p12, p13, p14⟩ := hqz
      obtain ⟨s1, s2, s3, s4⟩ := hb.2.2.2.1
      have hnode0 := hnode
      obtain ⟨hf, hf01, -⟩ := hnode
      rcases hf01 with h0 | h1
      · -- not failed
        have z0 : z.1 36 3 = 0 := hf.trans h0
        obtain ⟨o, c1, c2, c3, hv⟩ := ZJ_ch hRz hnode0 h0 (ah := ah) (by' := ch) N (by omega)
        cases o with
        | none =>
          -- a solution
          obtain ⟨s, hs⟩ : ∃ s : zMS, s = zps w 48 0 := ⟨_, rfl⟩
          have fs : ZfM (fun f => f = 48 ∨ f = 49 ∨ f = 51) (fun f => f = 50 ∨ (52 ≤ f ∧ f ≤ 54)) w s := by rw [hs]; exact ZfM.num ZfM.rfl (by omega)
          have hs48 : s.1 48 = 0 := by subst hs; simp only [zps, zus_s]
          have hs37 : s.1 37 = 0 := by rw [fs.1 37 (by omega)]; exact h0
          have hns : Znode P z s := by
            unfold Znode at hnode0 ⊢
            rw [fs.1 37 (by omega)]
            have e : ZTm s = ZTm w := by unfold ZTm; rw [fs.2 34 (by omega), fs.2 35 (by omega), fs.2 36 (by omega)]
            rw [e]
            exact hnode0
          obtain ⟨y, v, k1, k2, fy, fv, hfnd⟩ := ZJ_keep (hqz0.keep Zfr.rfl fs).1 hns hs37 hs48 N (by omega)
          have es : fX5_search_L111 N ah ch od (st, nI sn, nI cut, nI left) = some (.inl (v, nI sn, nI cut, nI left)) := by
            rw [hs] at k2
            simp only [fX5_search_L111, if_neg m48, q2, if_neg n400, Option.bind_some, nI_1, g2, h0, if_true, c2, Zne10, if_false, k2]
          refine ⟨y, 0, ?_, fz.trans (fy.mono (fun t f q => Or.inr (by omega)) fun u q => Or.inr (by omega)), hlz.fr fy (by omega) (by omega) (by omega) (by omega), v, n + 1, sn, hqz0.keep (fy.mono (fun t f q => Or.inr q) fun u q => by omega) (fs.trans (fv.mono (fun f q => by omega) (fun f q => by omega))), by omega, fw.trans ((fs.mono (fun f q => by omega) (fun f q => by omega)).trans (fv.mono (fun f q => by omega) (fun f q => by omega))), Or.inr (Or.inr (Or.inl ⟨rfl, (nI sn, nI cut, nI left), ?_, ?_, hfnd⟩))⟩
          · simp only [fX1_searchFrom_B, Zb0 hb.1, q1, Option.bind_some, if_neg n400, nI_1, g1, Zb3 s1, z0, if_true, p7, p8, c1, Zenc, k1]
          · rw [show n + 1 - n = 1 by omega]
            exact Zsteps_one es
          · rw [fv.1 48 (by omega)]
            exact hs48
        | some v =>
          -- a variable is chosen
          obtain ⟨v1, v2, v3, v4, v5⟩ := hv v rfl
          obtain ⟨k, hk, hkS, ev1, ev2⟩ := ZJ_value hb p10 v1 hn10 rfl v5 (od := od) N (by omega)
          have hvne : ¬ Zenc (some v) = (-1 : Int32) := ZnI_ne (by omega)
          have hve : Zenc (some v) = nI v := rfl
          rw [hve] at c1 c3 hvne
          have s58 := hb.2.2.2.2.2.2.2.2.2.2.1
          have hD := hb.2.2.2.2.2.1
          have v10 : v < 10 := by omega
          -- the phase
          obtain ⟨y1, hy1⟩ : ∃ y1 : Zxs, y1 = (z.1, zua z.2 58 v (nI k)) := ⟨_, rfl⟩
          obtain ⟨u1, hu1⟩ : ∃ u1 : zMS, u1 = (w.1, zua w.2 45 v (nI k + 1)) := ⟨_, rfl⟩
          have fy1 : Zfr (fun _ _ => False) (fun u => u = 58) z y1 := by rw [hy1]; exact Zfr.arr Zfr.rfl rfl
          have fu1 : ZfM (fun _ => False) (fun f => f = 45) w u1 := by rw [hu1]; exact ZfM.arr ZfM.rfl rfl
          have hph1 : Zph P y1 u1 := by rw [hy1, hu1]; exact p10.put v1 hk
          have hq1 : ZSq E sh y1 u1 P L ah ch od (n + 1) cut left sn := by
            refine ⟨hRz.gen (fy1.mono (fun t f q => absurd q (fun q => q)) fun u q => ⟨Or.inl (by omega), by omega, by omega⟩) (fu1.mono (fun f q => absurd q (fun q => q)) (fun f q => by unfold ZMf; omega)) (by rw [fu1.1 32 (fun q => q)]; exact hRz.2.2.2.2.2.2.2.2.2), ?_, ?_, ?_, ?_, ?_, ?_, ⟨?_, ?_, ?_⟩, hph1, p11, p12, p13, p14⟩
            all_goals first | (rw [fy1.1 1 _ (fun q => q), fu1.1 _ (fun q => q)]; assumption) | (rw [fy1.1 1 _ (fun q => q)]; assumption) | (rw [fu1.1 _ (fun q => q)]; assumption)
          have hl1 : ZXl y1 54 (L ++ R) := hlz.fr fy1 (fun q => q) (by omega) (by omega) (by omega)
          have hp1 : ZMpa u1 R := hpw.fr fu1 (fun q => q) (fun i _ _ => by omega)
          have h413 : (L ++ R).length < 413 := by
            rw [List.length_append]
            have := hR.2.2.2.2.2.2.1.2.1
            omega
          obtain ⟨y2, ea2, fy2, hl2⟩ := ZX_addD (E := E) (e := (v, k, true)) hD hl1 h413 hk
          obtain ⟨u2, ed2, fu2, hp2⟩ := ZM_down (v := v) hp1 (by omega) hk
          have hq2 : ZSq E sh y2 u2 P L ah ch od (n + 1) cut left sn := hq1.keep (fy2.mono (fun t f q => Or.inl q) fun u q => by omega) (fu2.mono (fun f q => by omega) (fun f q => by omega))
          rw [List.append_assoc] at hl2
          have y224 : y2.1 1 24 = -1 := by rw [fy2.1 1 24 (by omega), fy1.1 1 24 (fun q => q)]; exact z24
          have u248 : u2.1 48 = -1 := by rw [fu2.1 48 (by omega), fu1.1 48 (fun q => q)]; exact w48
          have hLR2 : ∀ b, ZLv P (R ++ [(v, k, b)]) := fun b e he => by
            rcases List.mem_append.mp he with g | g
            · exact hLR e g
            · cases List.mem_singleton.mp g
              exact ⟨v1, v2, hk⟩
          have es : fX5_search_L111 N ah ch od (st, nI sn, nI cut, nI left) = some (.inl (u2, nI sn, nI cut, nI left)) := by
            have ez : zas w 45 (nI v) (nI k + 1) = some u1 := by rw [Zas (show zMl 45 = 10 from rfl) (by decide) v10, hu1]
            simp only [fX5_search_L111, if_neg m48, q2, if_neg n400, Option.bind_some, nI_1 n, g2, h0, if_true, c2, reduceCtorEq, if_false, c3, ev2, ez, ed2]
          obtain ⟨z3, r3, e3, f3, hout3⟩ := ih (n + 1) y2 u2 (R ++ [(v, k, true)]) sn hq2 y224 u248 hp2 (by simp; omega) hl2 (hLR2 true) hcut (by omega)
          have fxz2 : Zfr (ZhA P) (ZhB P) xs y2 := fz.trans ((fy1.mono (fun t f q => absurd q (fun q => q)) fun u q => Or.inr (by omega)).trans (fy2.mono (fun t f q => Or.inr (by omega)) fun u q => Or.inr (by omega)))
          have fsw2 : ZfH st u2 := fw.trans ((fu1.mono (fun f q => absurd q (fun q => q)) (fun f q => by omega)).trans (fu2.mono (fun f q => by omega) (fun f q => by omega)))
          have f54 : ∀ z : Zxs, Zfr (ZhA P) (ZhB P) z (zua z.1 54 3 (nI (L ++ R).length), z.2) := fun z => Zfr.num Zfr.rfl (Or.inr (Or.inr ⟨rfl, rfl⟩))
          have esz : zgI [1] 3 (ZW E sh y1) (Zl E 54) = some (nI (L ++ R).length) := by simp only [Zb1 hD.1, hl1.1]
          have epv : ∀ z : Zxs, zpv [1] 3 (ZW E sh z) (Zl E 54) (.int (nI (L ++ R).length)) = some (ZW E sh (zua z.1 54 3 (nI (L ++ R).length), z.2)) := fun z => by simp only [Zb1 hD.1]
          have est : zsI (ZW E sh z) (Zl E 58) (nI v) (nI k) = some (ZW E sh y1) := by rw [(ZbI s58 (by omega)).2.1 E z v (nI k) v10, hy1]
          have eS : zaI (ZW E sh z) (Zl E (36 + 1)) (nI v) = some (w.2 34 v) := by
            rw [(ZbI s2 (by omega)).1 E z v v10]
            exact congrArg some v3
          simp only [if_true] at ea2
          rcases hout3.up (n := n) hb (Zsteps_one es) (by omega) fsw2 with ⟨hout, hic⟩ | ⟨-, hr3, hic, hl4, w3, n3, sn3, hq4, hn3, fw3, hcut3, hst3, z324, hp3, w348⟩
          · refine ⟨_, r3, ?_, fxz2.trans (f3.trans (f54 z3)), hout⟩
            by_cases hr : r3 = 1
            · simp only [fX1_searchFrom_B, Zb0 hb.1, q1, Option.bind_some, if_neg n400, nI_1, g1, Zb3 s1, z0, if_true, p7, p8, p9, c1, if_neg hvne, eS, ev1, est, esz, Zb1 hD.1, ea2, e3, epv, if_pos hr, hic rfl hr, Zne10, if_false]
            · simp only [fX1_searchFrom_B, Zb0 hb.1, q1, Option.bind_some, if_neg n400, nI_1, g1, Zb3 s1, z0, if_true, p7, p8, p9, c1, if_neg hvne, eS, ev1, est, esz, Zb1 hD.1, ea2, e3, epv, if_neg hr]
          · -- the other branch
            obtain ⟨z4, hz4⟩ : ∃ z4 : Zxs, z4 = (zua z3.1 54 3 (nI (L ++ R).length), z3.2) := ⟨_, rfl⟩
            rw [← hz4] at hic hl4 hq4
            have fz4 := f54 z3
            rw [← hz4] at fz4
            obtain ⟨y5, ea5, fy5, hl5⟩ := ZX_addD (E := E) (e := (v, k, false)) hD hl4 h413 hk
            rw [List.append_assoc] at hl5
            simp only [Bool.false_eq_true, if_false] at ea5
            have z424 : y5.1 1 24 = -1 := by
              rw [fy5.1 1 24 (by omega), hz4]
              simp only [zua_n (show 1 ≠ 54 by decide)]
              exact z324
            have hq5 := hq4.keep (fy5.mono (fun t f q => Or.inl q) fun u q => by omega) ZfM.rfl
            obtain ⟨z6, r6, e6, f6, hout6⟩ := ih n3 y5 w3 (R ++ [(v, k, false)]) sn3 hq5 z424 w348 hp3 (by simp; omega) hl5 (hLR2 false) hcut3 (by omega)
            rcases hout6.up (n := n) hb hst3 (by omega) fw3 with ⟨hout, -⟩ | ⟨h, -⟩
            · refine ⟨_, r6, ?_, fxz2.trans (f3.trans (fz4.trans ((fy5.mono (fun t f q => Or.inr (by omega)) fun u q => Or.inr (by omega)).trans (f6.trans (f54 z6))))), hout⟩
              have epv3 := epv z3
              rw [← hz4] at epv3
              rw [hz4] at hic ea5
              simp only [fX1_searchFrom_B, Zb0 hb.1, q1, Option.bind_some, if_neg n400, nI_1, g1, Zb3 s1, z0, if_true, p7, p8, p9, c1, if_neg hvne, eS, ev1, est, esz, Zb1 hD.1, ea2, e3, epv, if_pos hr3, hic, ea5, e6]
            · exact Bool.noConfusion h
      · -- failed
        have z1 : z.1 36 3 = 1 := hf.trans h1
        have hne1 : ¬ (1 : Int32) = 0 := by decide
        obtain ⟨y, hy⟩ : ∃ y : Zxs, y = (zua (zua z.1 1 26 (z.1 1 26 + 1)) 1 28 (nI (sn + 1)), z.2) := ⟨_, rfl⟩
        obtain ⟨s, hs⟩ : ∃ s : zMS, s = zps w 47 (w.1 47 + 1) := ⟨_, rfl⟩
        have fy : Zfr (fun t f => t = 1 ∧ (f = 26 ∨ f = 28)) (fun _ => False) z y := by rw [hy]; exact Zfr.num (Zfr.num Zfr.rfl (by omega)) (by omega)
        have fs : ZfM (fun f => f = 47) (fun _ => False) w s := by rw [hs]; exact ZfM.num ZfM.rfl rfl
        have hqy : ZSq E sh y s P L ah ch od (n + 1) cut left (sn + 1) := by
          refine ⟨hRz.gen (fy.mono (fun t f q => ⟨Or.inl (by omega), by omega, by omega, by omega⟩) fun u q => absurd q (fun q => q)) (fs.mono (fun f q => by unfold ZMf; omega) (fun f q => absurd q (fun q => q))) (by rw [fs.1 32 (by omega)]; exact hRz.2.2.2.2.2.2.2.2.2), by rw [fy.1 1 25 (by omega)]; exact p1, by rw [fs.1 46 (by omega)]; exact p2, ?_, by rw [fy.1 1 27 (by omega)]; exact p4, ?_, by rw [fy.1 1 29 (by omega)]; exact p6, ⟨by rw [fy.1 1 30 (by omega)]; exact p7, by rw [fy.1 1 31 (by omega)]; exact p8, by rw [fy.1 1 32 (by omega)]; exact p9⟩, p10.fr (fy.2 58 (fun q => q)) (fs.2 45 (fun q => q)), by omega, by omega, p13, p14⟩
          · subst hy
            subst hs
            simp only [zps, zus_s, zua_sn (show 26 ≠ 28 by decide), zua_ss, p3]
          · subst hy
            simp only [zua_ss]
        have hly : ZXl y 54 (L ++ R) := hlz.fr fy (by omega) (fun q => q) (fun q => q) (fun q => q)
        have ey : fX1_searchFrom_B (fX1_searchFrom d) N (ZW E sh xs) (Zl E 1) = some (ZW E sh y, 1) := by
          have e28 : (zua z.1 1 26 (z.1 1 26 + 1)) 1 28 = nI sn := by rw [zua_sn (by decide)]; exact p5
          simp only [fX1_searchFrom_B, Zb0 hb.1, q1, Option.bind_some, if_neg n400, nI_1, g1, Zb3 s1, z1, hne1, if_false, e28, hy]
        have fzy : Zfr (ZhA P) (ZhB P) xs y := fz.trans (fy.mono (fun t f q => Or.inr (by omega)) fun u q => absurd q (fun q => q))
        have fws : ZfH st s := fw.trans (fs.mono (fun f q => by omega) (fun f q => absurd q (fun q => q)))
        have y24 : y.1 1 24 = -1 := by rw [fy.1 1 24 (by omega)]; exact z24
        have s48 : s.1 48 = -1 := by rw [fs.1 48 (by omega)]; exact w48
        have hps : ZMpa s R := hpw.fr fs (by omega) (fun i _ _ q => q)
        refine ⟨y, 1, ey, fzy, hly, ?_⟩
        by_cases hc : 0 < left ∧ sn + 1 = cut
        · -- the cut
          obtain ⟨hc1, hc2⟩ := hc
          have es : fX5_search_L111 N ah ch od (st, nI sn, nI cut, nI left) = some (.inl (zps s 51 0, (0 : Int32), nI cut * 2, nI left + (-1))) := by
            simp only [fX5_search_L111, if_neg m48, q2, if_neg n400, Option.bind_some, nI_1, g2, h1, hne1, if_false, if_pos (congrArg nI hc2), if_neg (show ¬ nI left ≤ 0 from nI_ge (a := 0) hc1 (by omega)), Zesc_r, hs]
          have f51 : ZfM (fun f => f = 51) (fun _ => False) s (zps s 51 0) := ZfM.num ZfM.rfl rfl
          refine ⟨zps s 51 0, n + 1, sn + 1, hqy.keep Zfr.rfl (f51.mono (fun f q => by omega) (fun f q => absurd q (fun q => q))), by omega, fws.trans (f51.mono (fun f q => by omega) (fun f q => absurd q (fun q => q))), Or.inr (Or.inl ⟨rfl, by omega, hc1, by omega, ?_, y24, ?_, ?_, ?_, ?_⟩)⟩
          · rw [show n + 1 - n = 1 by omega]
            exact Zsteps_one es
          · rw [f51.1 48 (by omega)]
            exact s48
          · simp only [zps, zus_s]
            rfl
          · simp
          · intro i e he
            simp at he
        · -- M goes back
          obtain ⟨v, b, eb, fv, hv⟩ := ZM_back hps N (by omega)
          have es : fX5_search_L111 N ah ch od (st, nI sn, nI cut, nI left) = (if b = 0 then some (.inl (zps v 48 1, nI (sn + 1), nI cut, nI left)) else some (.inl (v, nI (sn + 1), nI cut, nI left))) := by
            by_cases k1 : sn + 1 = cut
            · have k2 : left = 0 := by omega
              subst k2
              simp only [fX5_search_L111, if_neg m48, q2, if_neg n400, Option.bind_some, nI_1, g2, h1, hne1, if_false, if_pos (congrArg nI k1), if_pos (show nI 0 ≤ 0 by decide), Zesc_l, ← hs, eb]
            · have k2 : ¬ nI (sn + 1) = nI cut := fun g => k1 ((nI_eq (by omega) (by omega)).mp g)
              simp only [fX5_search_L111, if_neg m48, q2, if_neg n400, Option.bind_some, nI_1, g2, h1, hne1, if_false, if_neg k2, Zesc_l, ← hs, eb]
          have hlt : 0 < left → sn + 1 < cut := fun g => by
            have := hcut g
            have : ¬ sn + 1 = cut := fun q => hc ⟨g, q⟩
            omega
          rcases hv with ⟨k1, rfl, k3⟩ | ⟨R', k1, rfl, k3⟩
          · rw [if_pos rfl] at es
            have f48 : ZfM (fun f => f = 48) (fun _ => False) v (zps v 48 1) := ZfM.num ZfM.rfl rfl
            have fv2 : ZfM (fun f => f = 48 ∨ f = 49 ∨ f = 51) (fun f => f = 50 ∨ (52 ≤ f ∧ f ≤ 54)) s (zps v 48 1) := (fv.mono (fun f q => by omega) (fun f q => by omega)).trans (f48.mono (fun f q => by omega) (fun f q => absurd q (fun q => q)))
            refine ⟨zps v 48 1, n + 1, sn + 1, hqy.keep Zfr.rfl fv2, by omega, fws.trans (fv2.mono (fun f q => by omega) (fun f q => by omega)), Or.inl ⟨rfl, by omega, hlt, ?_, y24, Or.inl ⟨k1, ?_⟩⟩⟩
            · rw [show n + 1 - n = 1 by omega]
              exact Zsteps_one es
            · simp only [zps, zus_s]
          · rw [if_neg hne1] at es
            refine ⟨v, n + 1, sn + 1, hqy.keep Zfr.rfl (fv.mono (fun f q => by omega) (fun f q => by omega)), by omega, fws.trans (fv.mono (fun f q => by omega) (fun f q => by omega)), Or.inl ⟨rfl, by omega, hlt, ?_, y24, Or.inr ⟨R', k1, k3, ?_⟩⟩⟩
            · rw [show n + 1 - n = 1 by omega]
              exact Zsteps_one es
            · rw [fv.1 48 (by omega)]
              exact s48
end SE
