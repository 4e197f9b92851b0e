/-! LEVEL 2: questions to the net: links, ways, room -/
def b32 (b : Bool) : Int32 := if b then 1 else 0
theorem b32_eq0 {b : Bool} : b32 b = 0 ↔ b = false := by cases b <;> simp [b32]
theorem b32_eq1 {b : Bool} : b32 b = 1 ↔ b = true := by cases b <;> simp [b32]
theorem b32_01 {b : Bool} : b32 b = 0 ∨ b32 b = 1 := by cases b <;> simp [b32]
theorem e_rq {α : Type} {c : Prop} [Decidable c] {k : Option α} (h : c) : g_rq c k = k := if_pos h
def smN (f : Nat → Int32) : Nat → Nat → Int32 → Int32
  | _, 0, s => s
  | k, m + 1, s => smN f (k + 1) m (s + f k)
theorem fsN_end {p : Nat → Bool} {n : Nat} : fsN p n (n - n) = n := by rw [Nat.sub_self]; rfl
theorem fsN_step {p : Nat → Bool} {j n : Nat} (h : j < n) : fsN p j (n - j) = if p j = true then j else fsN p (j + 1) (n - (j + 1)) := by
  rw [show n - j = (n - (j + 1)) + 1 by omega]
  rfl
theorem smN_end {f : Nat → Int32} {n : Nat} {s : Int32} : smN f n (n - n) s = s := by rw [Nat.sub_self]; rfl
theorem smN_step {f : Nat → Int32} {j n : Nat} {s : Int32} (h : j < n) : smN f j (n - j) s = smN f (j + 1) (n - (j + 1)) (s + f j) := by
  rw [show n - j = (n - (j + 1)) + 1 by omega]
  rfl
theorem smN_congr {f g : Nat → Int32} : ∀ m k s, (∀ j, k ≤ j → j < k + m → f j = g j) → smN f k m s = smN g k m s
  | 0, _, _, _ => rfl
  | m + 1, k, s, h => by
    unfold smN
    rw [h k (Nat.le_refl _) (by omega)]
    exact smN_congr m (k + 1) _ (fun j h1 h2 => h j (by omega) (by omega))
theorem fsN_congr {p q : Nat → Bool} : ∀ m k, (∀ j, k ≤ j → j < k + m → p j = q j) → fsN p k m = fsN q k m
  | 0, _, _ => rfl
  | m + 1, k, h => by
    unfold fsN
    rw [h k (Nat.le_refl _) (by omega), fsN_congr m (k + 1) (fun j h1 h2 => h j (by omega) (by omega))]
/-- a way object shows n nodes D -/
def WyN (h : g_AH) (w n : Nat) (D : Nat → Int32) : Prop := cl h w = some 6 ∧ J h 6 3 w = Int32.ofNat n ∧ n ≤ 6 ∧ AL h 6 0 w = 6 ∧ ∀ i, i < n → Ar h 6 0 w i = D i
/-- the nodes of the way at p -/
abbrev rwD (r : tR) (p : Nat) (i : Nat) : Int32 := r (p + 1 + i)
def us (r : tR) (n : Nat) (D : Nat → Int32) (k : Nat) : Bool := decide (fsN (fun j => jn r k (D (j - 1)) (D j)) 1 (n - 1) < n)
def dly (r : tR) (n : Nat) (D : Nat → Int32) : Int32 := smN (fun j => r (24 + 5 * lk r (D (j - 1)) (D j) + 3)) 1 (n - 1) 0
def rsv (r : tR) (k : Nat) (but : Int32) (m : Nat) : Int32 := smN (fun c => if Int32.ofNat c = but then 0 else if (us r (nt r (wp c 0)) (rwD r (wp c 0)) k || (decide (0 < nt r (104 + 66 * c + 2)) && us r (nt r (wp c 1)) (rwD r (wp c 1)) k)) = true then r (104 + 66 * c) else 0) 0 m 0
def hro (r : tR) (k : Nat) (but band : Int32) (m : Nat) : Bool := decide (r (24 + 5 * k + 4) = 1) && !decide (r (24 + 5 * k + 2) < rsv r k but m + band)
def hrW (r : tR) (n : Nat) (D : Nat → Int32) (but band : Int32) (m : Nat) : Bool := decide (n ≤ fsN (fun j => !hro r (lk r (D (j - 1)) (D j)) but band m) 1 (n - 1))
theorem us_end {r : tR} {n : Nat} {D : Nat → Int32} {k : Nat} (h : n ≤ 1) : us r n D k = false := by
  unfold us
  rw [show n - 1 = 0 by omega]
  exact decide_eq_false (by show ¬ 1 < n; omega)
/-- consecutive nodes are joined -/
def Leg (r : tR) (n : Nat) (D : Nat → Int32) : Prop := ∀ i, i + 1 < n → lk r (D i) (D (i + 1)) < nt r 3
theorem if4 {α : Type} {A B C D : Prop} [Decidable A] [Decidable B] [Decidable C] [Decidable D] {x y : α} : (if A then (if B then x else (if C then (if D then x else y) else y)) else (if C then (if D then x else y) else y)) = if (decide A && decide B || decide C && decide D) = true then x else y := by
  by_cases a : A <;> by_cases b : B <;> by_cases c : C <;> by_cases d : D <;> simp [a, b, c, d]
section QRY
variable {h : g_AH} {G : Nat → Prop} {a : Nat} {r : tR} {N L C K : Nat → Nat} {mC x k p c w n : Nat} {M : g_MD} {D : Nat → Int32}
theorem WayR.wyn (hx : WayR h G r w p) (hp : nm r p 7) : WyN h w (nt r p) (rwD r p) :=
  ⟨hx.1.1, by rw [hx.2.1]; exact hp.1, by have := hp.2; omega, hx.2.2.1 0 (by omega), fun i hi => hx.2.2.2 0 i (by omega) hi⟩
theorem way_node (hW : WF h) {α : Type} {K1 : Nat → Int32 → Option α} {i : Nat} (hw : WyN h w n D) (hi : i < n) : (g_gR h w 6 0 fun y => g_nn y fun q => g_aI h 0 q (Int32.ofNat i) fun z => K1 q z) = K1 ((Rf h 6 0 w).getD 0) (D i) := by
  obtain ⟨h1, h2, h3, h4, h5⟩ := hw
  obtain ⟨q, hq⟩ := AL_ref h4 (by omega)
  rw [v_gR hW h1 rfl, hq, e_nn, v_aI (t := 0) hW hq rfl rfl (by rw [h4]; exact i_in (by omega) (by omega)), i_cl (by omega), h5 i hi]
  rfl
theorem RN.lst (hR : RN h G a r N L C K mC) : cl h a = some 1 ∧ (∀ i, 1 ≤ i → i ≤ 4 → Rf h 1 i a = some (lA h a i)) ∧ Lst h (lA h a 1) (nt r 2) N ∧ Lst h (lA h a 2) (nt r 3) L ∧ Lst h (lA h a 3) mC C ∧ Lst h (lA h a 4) (nt r 6) K :=
  ⟨hR.1.1.1, fun i x1 x2 => (hR.2.1.1 i x1 x2).1, hR.2.1.2.2.1.1, hR.2.1.2.2.1.2.1, hR.2.1.2.2.1.2.2.1, hR.2.1.2.2.1.2.2.2⟩
theorem c_joins (hW : WF h) (hx : LinkR h G r x k) {u v : Int32} : Link_joins h x u v = some (b32 (jn r k u v)) := by
  obtain ⟨⟨h1, -⟩, h2⟩ := hx
  have e0 : J h 11 0 x = r (24 + 5 * k) := h2 0 (by omega)
  have e1 : J h 11 1 x = r (24 + 5 * k + 1) := h2 1 (by omega)
  unfold Link_joins Link_joins_16 jn
  have q0 : ∀ K1 : Int32 → Option Int32, g_gI h x 11 0 K1 = K1 (r (24 + 5 * k)) := fun K1 => by rw [v_gI hW h1 rfl, e0]
  have q1 : ∀ K1 : Int32 → Option Int32, g_gI h x 11 1 K1 = K1 (r (24 + 5 * k + 1)) := fun K1 => by rw [v_gI hW h1 rfl, e1]
  simp only [q0, q1]
  rw [if4]
  unfold b32
  split <;> rfl
theorem nm3 (hA : InvA r) : nt r 3 < 17 := hA.1.2.1.2
theorem nm2 (hA : InvA r) : nt r 2 < 11 := hA.1.1.2
theorem nm4 (hA : InvA r) : nt r 4 < 9 := hA.1.2.2.1.2
theorem nm6 (hA : InvA r) : nt r 6 < 61 := hA.1.2.2.2.2
theorem c_linkOf (hW : WF h) (hR : RN h G a r N L C K mC) (hA : InvA r) {u v : Int32} : Net_linkOf h a u v = some (ixI (nt r 3) (lk r u v)) := by
  obtain ⟨ha, hl, -, hL, -, -⟩ := hR.lst
  have hlk := hR.2.2.2.1
  have h3 := nm3 hA
  have loop : ∀ n j, j ≤ nt r 3 → nt r 3 - j < n → Net_linkOf_2 h n a u v (Int32.ofNat j) = some (ixI (nt r 3) (fsN (fun k => jn r k u v) j (nt r 3 - j))) := by
    intro n
    induction n with
    | zero => intro j _ h; omega
    | succ n ih =>
      intro j hj hn
      rw [Net_linkOf_2, v_gR hW ha rfl, hl 2 (by omega) (by omega), e_nn, v_is hL.1, e_b (ls_size hW hL)]
      by_cases hc : nt r 3 ≤ j
      · have : j = nt r 3 := by omega
        subst this
        rw [if_pos ((i_le (by omega) (by omega)).mpr hc), fsN_end]
        simp [ixI]
      · rw [if_neg (fun q => hc ((i_le (by omega) (by omega)).mp q)), v_gR hW ha rfl, hl 2 (by omega) (by omega), e_nn, v_is hL.1, e_b (ls_get hW hL (by omega))]
        have hx := hlk j (by omega)
        rw [v_ck hx.1.1, e_nn, v_is hx.1.1, e_b (c_joins hW hx), fsN_step (by omega)]
        by_cases hj2 : jn r j u v = true
        · rw [if_neg (fun q => by rw [b32_eq0.mp q] at hj2; cases hj2), if_pos hj2]
          simp [ixI, show j < nt r 3 by omega]
        · rw [if_pos (b32_eq0.mpr (by simpa using hj2)), if_neg hj2, show Int32.ofNat j + (1 : Int32) = Int32.ofNat (j + 1) from i_add]
          exact ih (j + 1) (by omega) (by omega)
  have := loop gFU 0 (by omega) (by unfold gFU; omega)
  unfold Net_linkOf lk
  exact this
theorem t_ofLink (hk : k < 16) {f : Nat} (hf : f < 5) : Mod_ofLink M (Int32.ofNat k) (Int32.ofNat f) = some (M.1 0 (24 + 5 * k + f)) := by
  unfold Mod_ofLink
  rw [e_r' (i := 24 + 5 * k + f) (by show (Int32.ofNat 24 + Int32.ofNat 5 * Int32.ofNat k) + Int32.ofNat f = _; rw [i_mul, i_add, i_add]) (by omega)]
theorem t_linkOf (hA : InvA (M.1 0)) {u v : Int32} : Mod_linkOf M u v = some (ixI (nt (M.1 0) 3) (lk (M.1 0) u v)) := by
  have h3 := nm3 hA
  have loop : ∀ n j, j ≤ nt (M.1 0) 3 → nt (M.1 0) 3 - j < n → Mod_linkOf_2 M n u v (Int32.ofNat j) = some (ixI (nt (M.1 0) 3) (fsN (fun k => jn (M.1 0) k u v) j (nt (M.1 0) 3 - j))) := by
    intro n
    induction n with
    | zero => intro j _ h; omega
    | succ n ih =>
      intro j hj hn
      rw [Mod_linkOf_2, e_r' (i := 3) (j := (3 : Int32)) rfl (by decide), hA.1.2.1.1]
      by_cases hc : nt (M.1 0) 3 ≤ j
      · have : j = nt (M.1 0) 3 := by omega
        subst this
        rw [if_pos ((i_le (by omega) (by omega)).mpr hc), fsN_end]
        simp [ixI]
      · rw [if_neg (fun q => hc ((i_le (by omega) (by omega)).mp q))]
        rw [e_b (f := Mod_ofLink M (Int32.ofNat j) (0 : Int32)) (t_ofLink (k := j) (f := 0) (by omega) (by decide)), e_b (f := Mod_ofLink M (Int32.ofNat j) (1 : Int32)) (t_ofLink (k := j) (f := 1) (by omega) (by decide)), fsN_step (by omega)]
        unfold Mod_linkOf_40 Mod_linkOf_54
        rw [show Int32.ofNat j + (1 : Int32) = Int32.ofNat (j + 1) from i_add, ih (j + 1) (by omega) (by omega)]
        have hx : some (Int32.ofNat j) = some (ixI (nt (M.1 0) 3) j) := by simp [ixI, show j < nt (M.1 0) 3 by omega]
        rw [hx]
        show (if M.1 0 (24 + 5 * j) = u then _ else _) = _
        rw [if4]
        show (if jn (M.1 0) j u v = true then _ else _) = _
        by_cases hj2 : jn (M.1 0) j u v = true
        · rw [if_pos hj2, if_pos hj2]
        · rw [if_neg hj2, if_neg hj2]
  have := loop gFU 0 (by omega) (by unfold gFU; omega)
  unfold Mod_linkOf lk
  exact this
theorem lk_eq (hA : InvA r) {u v : Int32} (hk : k < nt r 3) : lk r u v = k ↔ jn r k u v = true := by
  have h0 := fsN_le (p := fun k => jn r k u v) (nt r 3) 0
  constructor
  · intro e
    have := fsN_is (p := fun k => jn r k u v) (nt r 3) 0 (by unfold lk at e; omega)
    unfold lk at e; rw [e] at this; exact this
  · intro e
    have h1 := fsN_ex (p := fun k => jn r k u v) (m := nt r 3) (k := 0) (j := k) (by omega) (by omega) e
    have h2 := fsN_is (p := fun k => jn r k u v) (nt r 3) 0 (by omega)
    exact hA.2.2.2.2 _ _ u v (by unfold lk; omega) hk h2 e
theorem ixI_eq (hn : n < 1000) (hk : k < n) {j : Nat} : ixI n j = Int32.ofNat k ↔ j = k := by
  unfold ixI
  by_cases hj : j < n
  · rw [if_pos hj, i_eq (by omega) (by omega)]
  · rw [if_neg hj]
    refine ⟨fun q => absurd q.symm (m1_ne (by omega)), fun q => by omega⟩
theorem ixI_m1 (hn : n < 1000) {j : Nat} : ixI n j = -1 ↔ n ≤ j := by
  unfold ixI
  by_cases hj : j < n
  · rw [if_pos hj]
    exact ⟨fun q => absurd q (m1_ne (by omega)), fun q => by omega⟩
  · rw [if_neg hj]
    exact ⟨fun _ => by omega, fun _ => rfl⟩
theorem ixI_lt {j : Nat} (h : j < n) : ixI n j = Int32.ofNat j := if_pos h
/-- does a way use a link -/
theorem c_uses (hW : WF h) (hR : RN h G a r N L C K mC) (hA : InvA r) (hk : k < nt r 3) (hw : WyN h w n D) : Net_uses h a (some w) (Int32.ofNat k) = some (b32 (us r n D k)) := by
  obtain ⟨ha, hl, -, hL, -, -⟩ := hR.lst
  have hx := hR.2.2.2.1 k hk
  have h3 := nm3 hA
  have hn6 := hw.2.2.1
  have loop : ∀ m j, 1 ≤ j → j ≤ 100 → n - j < m → Net_uses_2 h m a (some w) (Int32.ofNat k) (Int32.ofNat j) = some (b32 (decide (fsN (fun j => jn r k (D (j - 1)) (D j)) j (n - j) < n))) := by
    intro m
    induction m with
    | zero => intro j _ _ h; omega
    | succ m ih =>
      intro j hj hj2 hm
      rw [Net_uses_2, if_neg (by simp), e_nn, v_gI hW hw.1 rfl, hw.2.1]
      by_cases hc : n ≤ j
      · rw [if_pos ((i_le (by omega) (by omega)).mpr hc), show n - j = 0 by omega]
        simp [fsN, b32, show ¬ j < n by omega]
      · rw [if_neg (fun q => hc ((i_le (by omega) (by omega)).mp q)), v_gR hW ha rfl, hl 2 (by omega) (by omega), e_nn, v_is hL.1, e_b (ls_get hW hL hk), v_ck hx.1.1]
        rw [show Int32.ofNat j - (1 : Int32) = Int32.ofNat (j - 1) from i_sub1 (by omega)]
        rw [way_node hW hw (i := j - 1) (by omega), way_node hW hw (i := j) (by omega), e_nn, v_is hx.1.1, e_b (c_joins hW hx), fsN_step (by omega)]
        by_cases hj3 : jn r k (D (j - 1)) (D j) = true
        · rw [if_neg (fun q => by rw [b32_eq0.mp q] at hj3; cases hj3), if_pos hj3]
          simp [b32, show j < n by omega]
        · rw [if_pos (b32_eq0.mpr (by simpa using hj3)), if_neg hj3, show Int32.ofNat j + (1 : Int32) = Int32.ofNat (j + 1) from i_add]
          exact ih (j + 1) (by omega) (by omega) (by omega)
  exact loop gFU 1 (by omega) (by omega) (by unfold gFU; omega)
theorem c_usesN : Net_uses h a none (Int32.ofNat k) = some 0 := by
  unfold Net_uses gFU
  rw [Net_uses_2, if_pos rfl]
theorem t_usesLink (hA : InvA (M.1 0)) (hk : k < nt (M.1 0) 3) (hp : nm (M.1 0) p 7) (hp2 : p + 25 ≤ 1112) : Mod_usesLink M (Int32.ofNat p) (Int32.ofNat k) = some (b32 (us (M.1 0) (nt (M.1 0) p) (rwD (M.1 0) p) k)) := by
  have h3 := nm3 hA
  have hn6 := hp.2
  have loop : ∀ m j, 1 ≤ j → j ≤ 100 → nt (M.1 0) p - j < m → Mod_usesLink_2 M m (Int32.ofNat p) (Int32.ofNat k) (Int32.ofNat j) = some (b32 (decide (fsN (fun j => jn (M.1 0) k (rwD (M.1 0) p (j - 1)) (rwD (M.1 0) p j)) j (nt (M.1 0) p - j) < nt (M.1 0) p))) := by
    intro m
    induction m with
    | zero => intro j _ _ h; omega
    | succ m ih =>
      intro j hj hj2 hm
      rw [Mod_usesLink_2, e_r (by omega), hp.1]
      by_cases hc : nt (M.1 0) p ≤ j
      · rw [if_pos ((i_le (by omega) (by omega)).mpr hc), show nt (M.1 0) p - j = 0 by omega]
        simp [fsN, b32, show ¬ j < nt (M.1 0) p by omega]
      · rw [if_neg (fun q => hc ((i_le (by omega) (by omega)).mp q))]
        rw [e_r' (i := p + 1 + (j - 1)) (by show (Int32.ofNat p + Int32.ofNat 1 + Int32.ofNat j) - Int32.ofNat 1 = _; rw [i_add, i_add, i_sub (by omega)]; congr 1; omega) (by omega)]
        rw [e_r' (i := p + 1 + j) (by show Int32.ofNat p + Int32.ofNat 1 + Int32.ofNat j = _; rw [i_add, i_add]) (by omega)]
        rw [e_b (t_linkOf hA), fsN_step (by omega)]
        have key := lk_eq hA hk (u := rwD (M.1 0) p (j - 1)) (v := rwD (M.1 0) p j)
        by_cases hj3 : jn (M.1 0) k (rwD (M.1 0) p (j - 1)) (rwD (M.1 0) p j) = true
        · rw [if_pos ((ixI_eq (by omega) hk).mpr (key.mpr hj3)), if_pos hj3]
          simp [b32, show j < nt (M.1 0) p by omega]
        · rw [if_neg (fun q => hj3 (key.mp ((ixI_eq (by omega) hk).mp q))), if_neg hj3, show Int32.ofNat j + (1 : Int32) = Int32.ofNat (j + 1) from i_add]
          exact ih (j + 1) (by omega) (by omega) (by omega)
  exact loop gFU 1 (by omega) (by omega) (by unfold gFU; omega)
/-- what circuits reserve on a link -/
theorem c_reserved (hW : WF h) (hR : RN h G a r N L C K mC) (hA : InvA r) (hI : InvW r) (hm : mC ≤ nt r 4) (hk : k < nt r 3) {but : Int32} : Net_reserved h a (Int32.ofNat k) but = some (rsv r k but mC) := by
  obtain ⟨ha, hl, -, -, hC, -⟩ := hR.lst
  have hci := hR.2.2.2.2.1.1
  have h4 := nm4 hA
  have loop : ∀ m j s, j ≤ mC → mC - j < m → Net_reserved_5 h m a (Int32.ofNat k) but s (Int32.ofNat j) = some (smN (fun c => if Int32.ofNat c = but then 0 else if (us r (nt r (wp c 0)) (rwD r (wp c 0)) k || (decide (0 < nt r (104 + 66 * c + 2)) && us r (nt r (wp c 1)) (rwD r (wp c 1)) k)) = true then r (104 + 66 * c) else 0) j (mC - j) s) := by
    intro m
    induction m with
    | zero => intro j _ _ h; omega
    | succ m ih =>
      intro j s hj hm
      rw [Net_reserved_5, v_gR hW ha rfl, hl 3 (by omega) (by omega), e_nn, v_is hC.1, e_b (ls_size hW hC)]
      by_cases hc : mC ≤ j
      · have : j = mC := by omega
        subst this
        rw [if_pos ((i_le (by omega) (by omega)).mpr hc), smN_end]
      · rw [if_neg (fun q => hc ((i_le (by omega) (by omega)).mp q)), v_gR hW ha rfl, hl 3 (by omega) (by omega), e_nn, v_is hC.1, e_b (ls_get hW hC (by omega))]
        obtain ⟨⟨k1, -⟩, k2, ⟨w0, k3, k4⟩, k5, -⟩ := hci j (by omega)
        rw [v_ck k1, smN_step (by omega)]
        have next : ∀ y : Int32, Net_reserved_73 h (Net_reserved_5 h m) a (Int32.ofNat k) but (Int32.ofNat j) y s = some (smN (fun c => if Int32.ofNat c = but then 0 else if (us r (nt r (wp c 0)) (rwD r (wp c 0)) k || (decide (0 < nt r (104 + 66 * c + 2)) && us r (nt r (wp c 1)) (rwD r (wp c 1)) k)) = true then r (104 + 66 * c) else 0) (j + 1) (mC - (j + 1)) (s + y)) := by
          intro y
          unfold Net_reserved_73
          rw [show Int32.ofNat j + (1 : Int32) = Int32.ofNat (j + 1) from i_add]
          exact ih (j + 1) (s + y) (by omega) (by omega)
        have n72 : Net_reserved_72 h (Net_reserved_5 h m) a (Int32.ofNat k) but (Int32.ofNat j) s = _ := next 0
        have n64 : Net_reserved_64 h (Net_reserved_5 h m) a (Int32.ofNat k) but (Int32.ofNat j) (some (C j)) s = some (smN (fun c => if Int32.ofNat c = but then 0 else if (us r (nt r (wp c 0)) (rwD r (wp c 0)) k || (decide (0 < nt r (104 + 66 * c + 2)) && us r (nt r (wp c 1)) (rwD r (wp c 1)) k)) = true then r (104 + 66 * c) else 0) (j + 1) (mC - (j + 1)) (s + r (104 + 66 * j))) := by
          unfold Net_reserved_64
          rw [e_nn, v_gI hW k1 rfl, next, k2 0 (by decide)]
          rfl
        have hw0 := k4.wyn (hI j 0 (by omega) (by omega)).1
        by_cases hb : Int32.ofNat j = but
        · rw [if_pos hb, if_pos hb, n72]
        · rw [if_neg hb, if_neg hb, e_nn, v_gR hW k1 rfl, k3, v_is ha, e_b (c_uses hW hR hA hk hw0)]
          by_cases h1 : us r (nt r (wp j 0)) (rwD r (wp j 0)) k = true
          · rw [if_neg (fun q => by rw [b32_eq0.mp q] at h1; cases h1), n64, if_pos (by simp [h1])]
          · have h1' : us r (nt r (wp j 0)) (rwD r (wp j 0)) k = false := by simpa using h1
            rw [if_pos (b32_eq0.mpr h1'), v_gR hW k1 rfl, v_is ha]
            by_cases h0 : nt r (104 + 66 * j + 2) = 0
            · rw [if_pos h0] at k5
              rw [k5, e_b c_usesN, if_pos rfl, n72, if_neg (by simp [h1', h0])]
            · rw [if_neg h0] at k5
              obtain ⟨w1, k6, k7⟩ := k5
              rw [k6, e_b (c_uses hW hR hA hk (k7.wyn (hI j 1 (by omega) (by omega)).1))]
              by_cases h2 : us r (nt r (wp j 1)) (rwD r (wp j 1)) k = true
              · rw [if_neg (fun q => by rw [b32_eq0.mp q] at h2; cases h2), n64, if_pos (by simp [h2, Nat.pos_of_ne_zero h0])]
              · have h2' : us r (nt r (wp j 1)) (rwD r (wp j 1)) k = false := by simpa using h2
                rw [if_pos (b32_eq0.mpr h2'), n72, if_neg (by simp [h1', h2'])]
  have := loop gFU 0 0 (by omega) (by unfold gFU; omega)
  unfold Net_reserved rsv
  exact this
theorem t_wayPlace {c w : Nat} : Mod_wayPlace (Int32.ofNat c) (Int32.ofNat w) = some (Int32.ofNat (wp c w)) := by
  unfold Mod_wayPlace
  show some (Int32.ofNat 104 + Int32.ofNat 66 * Int32.ofNat c + Int32.ofNat 16 + Int32.ofNat 25 * Int32.ofNat w) = _
  rw [i_mul, i_mul, i_add, i_add, i_add]
theorem t_of {c f : Nat} (hc : c < 8) (hf : f < 66) : Mod_of M (Int32.ofNat c) (Int32.ofNat f) = some (M.1 0 (104 + 66 * c + f)) := by
  unfold Mod_of
  rw [e_r' (i := 104 + 66 * c + f) (by show (Int32.ofNat 104 + Int32.ofNat 66 * Int32.ofNat c) + Int32.ofNat f = _; rw [i_mul, i_add, i_add]) (by omega)]
end QRY
