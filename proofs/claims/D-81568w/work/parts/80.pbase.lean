/-! THE PURE LAW: basics -/
set_option maxRecDepth 100000
/-- ops of the abstract heap at a place that is known -/
theorem hAr_at {t n c a v : Nat} {h : hH} {f : Nat → Option Nat} (ha : h a = some (.inl (t, n, .inr f))) (hc : c < n) (hn : n < 2 ^ 31) (hv : f c = some v) : hAr t h a (nI c) = some v := by
  unfold hAr
  rw [ha]
  dsimp only
  rw [if_pos ⟨rfl, nI_in hc hn⟩, nI_clamp (by omega), hv]
theorem hAi_at {t n c a : Nat} {h : hH} {f : Nat → Int32} (ha : h a = some (.inl (t, n, .inl f))) (hc : c < n) (hn : n < 2 ^ 31) : hAi t h a (nI c) = some (f c) := by
  unfold hAi
  rw [ha]
  dsimp only
  rw [if_pos rfl]
  unfold ec_ag
  rw [if_neg (nI_in hc hn), nI_clamp (by omega)]
theorem hAsI_at {t n c a : Nat} {h : hH} {f : Nat → Int32} {v : Int32} (ha : h a = some (.inl (t, n, .inl f))) (hc : c < n) (hn : n < 2 ^ 31) : hAsI t h a (nI c) v = some (va_up h a (some (.inl (t, n, .inl (upd f c v))))) := by
  unfold hAsI
  rw [ha]
  dsimp only
  rw [if_pos ⟨rfl, nI_in hc hn⟩, nI_clamp (by omega)]
theorem hFld_at {ci a k : Nat} {h : hH} {fs : List Value} {v : Value} (ha : h a = some (.inr (ci, fs))) (hv : fs[k]? = some v) : hFld ci h a k = some v := by
  unfold hFld
  rw [ha]
  dsimp only
  rw [if_pos rfl, hv]
theorem hI_at {ci a k : Nat} {h : hH} {fs : List Value} {v : Int32} (ha : h a = some (.inr (ci, fs))) (hv : fs[k]? = some (.int v)) : hI ci h a k = some v := by
  unfold hI
  rw [hFld_at ha hv]
theorem hR_at {ci a k : Nat} {h : hH} {fs : List Value} {v : Nat} (ha : h a = some (.inr (ci, fs))) (hv : fs[k]? = some (.ref v)) : hR ci h a k = some v := by
  unfold hR
  rw [hFld_at ha hv]
theorem hQ_at {ci a k : Nat} {h : hH} {fs : List Value} {r : Option Nat} (ha : h a = some (.inr (ci, fs))) (hv : fs[k]? = some (va_rf r)) : hQ ci h a k = some r := by
  unfold hQ
  rw [hFld_at ha hv]
  cases r <;> rfl
theorem hPut_at {ci a k : Nat} {h : hH} {fs : List Value} (v : Value) (ha : h a = some (.inr (ci, fs))) (hk : k < fs.length) : hPut ci h a k v = some (va_up h a (some (.inr (ci, fs.set k v)))) := by
  unfold hPut
  rw [ha]
  dsimp only
  rw [if_pos ⟨rfl, hk⟩]
theorem hLen_at {t n a : Nat} {h : hH} {f : (Nat → Int32) ⊕ (Nat → Option Nat)} (ha : h a = some (.inl (t, n, f))) : hLen t h a = some (nI n) := by
  unfold hLen
  rw [ha]
  dsimp only
  rw [if_pos rfl]
  rfl
theorem hObj_at {ci a : Nat} {h : hH} {fs : List Value} (ha : h a = some (.inr (ci, fs))) : hObj ci h a = some fs := by
  unfold hObj
  rw [ha]
  dsimp only
  rw [if_pos rfl]
theorem ag_at {f : Nat → Int32} {n c : Nat} (hc : c < n) (hn : n < 2 ^ 31) : ec_ag f n (nI c) = some (f c) := by
  unfold ec_ag
  rw [if_neg (nI_in hc hn), nI_clamp (by omega)]
theorem as_at {M : sM} {k n c : Nat} {v : Int32} (hc : c < n) (hn : n < 2 ^ 31) : ec_as M k n (nI c) v = some (mA M k c v) := by
  unfold ec_as
  rw [if_neg (nI_in hc hn), nI_clamp (by omega)]
theorem xas_at {S : sX} {k n c : Nat} {v : Int32} (hc : c < n) (hn : n < 2 ^ 31) : ex_as S k n (nI c) v = some (xA S k c v) := by
  unfold ex_as
  rw [if_neg (nI_in hc hn), nI_clamp (by omega)]
theorem up_eq {α : Type} {f : Nat → α} {k : Nat} {v : α} : va_up f k v k = v := if_pos rfl
theorem up_ne {α : Type} {f : Nat → α} {k j : Nat} {v : α} (h : j ≠ k) : va_up f k v j = f j := if_neg h
theorem upd_eq' {f : Nat → Int32} {k : Nat} {v : Int32} : upd f k v k = v := by simp [upd]
theorem upd_ne' {f : Nat → Int32} {k j : Nat} {v : Int32} (h : j ≠ k) : upd f k v j = f j := by simp [upd, h]
/-- ranges -/
abbrev inB (x lo hi : Int64) : Prop := lo ≤ x ∧ x ≤ hi
theorem x_isIn (x lo hi : Int64) : fX0_isIn x lo hi = some (if inB x lo hi then 1 else 0) := by
  unfold fX0_isIn fX0_isIn_17 inB
  simp only [lg_cmp_lt, lg_cmp_gt]
  by_cases h1 : x < lo
  · rw [if_pos h1, if_neg (fun h => by have := h.1; rw [fa_le64] at this; rw [fa_lt64] at h1; omega)]
  · by_cases h2 : hi < x
    · rw [if_neg h1, if_pos h2, if_neg (fun h => by have := h.2; rw [fa_le64] at this; rw [fa_lt64] at h2; omega)]
    · rw [if_neg h1, if_neg h2, if_pos ⟨by rw [fa_le64]; rw [fa_lt64] at h1; omega, by rw [fa_le64]; rw [fa_lt64] at h2; omega⟩]
theorem m_in (x lo hi : Int64) : fX3_in x lo hi = some (if inB x lo hi then 1 else 0) := by
  unfold fX3_in fX3_in_17 inB
  simp only [lg_cmp_lt, lg_cmp_gt]
  by_cases h1 : x < lo
  · rw [if_pos h1, if_neg (fun h => by have := h.1; rw [fa_le64] at this; rw [fa_lt64] at h1; omega)]
  · by_cases h2 : hi < x
    · rw [if_neg h1, if_pos h2, if_neg (fun h => by have := h.2; rw [fa_le64] at this; rw [fa_lt64] at h2; omega)]
    · rw [if_neg h1, if_neg h2, if_pos ⟨by rw [fa_le64]; rw [fa_lt64] at h1; omega, by rw [fa_le64]; rw [fa_lt64] at h2; omega⟩]
theorem rz_01 (c : Prop) [Decidable c] : ec_rz (if c then 1 else 0) = some (if c then 1 else 0) := by
  unfold ec_rz
  by_cases h : c
  · rw [if_pos h]; rfl
  · rw [if_neg h]; rfl
theorem z01 {c : Prop} [Decidable c] : ((if c then (1 : Int32) else 0) = 0) ↔ ¬ c := by
  by_cases h : c
  · rw [if_pos h]; exact ⟨fun e => absurd e (by decide), fun e => absurd h e⟩
  · rw [if_neg h]; exact ⟨fun _ => h, fun _ => rfl⟩
/-- an int within 0 and n - 1, by its number -/
theorem in_nat {x : Int32} {n : Nat} (hn : n < 2 ^ 30) : inB x.toInt64 0 ((nI n - 1).toInt64) ↔ ∃ j, j < n ∧ x = nI j := by
  unfold inB
  rw [fa_le64, fa_le64, Int32.toInt_toInt64, Int32.toInt_toInt64]
  have e : (nI n - 1 : Int32).toInt = (n : Int) - 1 := by
    by_cases h0 : n = 0
    · subst h0; decide
    · have := pk_sub_toInt (a := n) (b := 1) hn (by decide)
      rw [show (nI 1 : Int32) = 1 from rfl] at this
      rw [this]; rfl
  rw [e]
  constructor
  · rintro ⟨h1, h2⟩
    have h1 : (0 : Int) ≤ x.toInt := h1
    obtain ⟨j, hj, rfl⟩ := nI_of (x := x) (fun hc => by rw [fa_lt] at hc; have : (0 : Int32).toInt = 0 := rfl; omega)
    rw [nI_toInt hj] at h2
    exact ⟨j, by omega, rfl⟩
  · rintro ⟨j, hj, rfl⟩
    rw [nI_toInt (by omega)]
    exact ⟨by show (0 : Int) ≤ j; omega, by omega⟩
theorem in_lit {x : Int32} (a b : Nat) (hb : b < 2 ^ 31) (ha : a < 2 ^ 31) : inB x.toInt64 (lN a) (lN b) ↔ ∃ j, a ≤ j ∧ j ≤ b ∧ x = nI j := by
  unfold inB
  rw [fa_le64, fa_le64, Int32.toInt_toInt64]
  rw [lN_toInt ha, lN_toInt hb]
  constructor
  · rintro ⟨h1, h2⟩
    obtain ⟨j, hj, rfl⟩ := nI_of (x := x) (fun hc => by rw [fa_lt] at hc; have : (0 : Int32).toInt = 0 := rfl; omega)
    rw [nI_toInt hj] at h1 h2
    exact ⟨j, by omega, by omega, rfl⟩
  · rintro ⟨j, h1, h2, rfl⟩
    rw [nI_toInt (by omega)]
    omega
/-- small functions -/
theorem x_isEvent (x : Int32) : fX0_isEvent x = some (if inB x.toInt64 0 7 then 1 else 0) := by unfold fX0_isEvent; rw [x_isIn, Option.bind_some, rz_01]
theorem m_isEvent (x : Int32) : fX3_isEvent x = some (if inB x.toInt64 0 7 then 1 else 0) := by unfold fX3_isEvent; rw [m_in, Option.bind_some, rz_01]
theorem x_isSet (x : Int32) : fX0_isSet x = some (if inB x.toInt64 0 255 then 1 else 0) := by unfold fX0_isSet; rw [x_isIn, Option.bind_some, rz_01]
theorem m_areEvents (x : Int32) : fX3_areEvents x = some (if inB x.toInt64 0 255 then 1 else 0) := by unfold fX3_areEvents; rw [m_in, Option.bind_some, rz_01]
theorem x_isLine (S : sX) (x : Int32) : fX0_isLine S x = some (if inB x.toInt64 0 ((S.1 4 - 1).toInt64) then 1 else 0) := by unfold fX0_isLine; rw [x_isIn, Option.bind_some, rz_01]
theorem m_isLine (M : sM) (x : Int32) : fX3_isLine M x = some (if inB x.toInt64 0 ((M.1 0 - 1).toInt64) then 1 else 0) := by unfold fX3_isLine; rw [m_in, Option.bind_some, rz_01]
theorem x_isCounter (S : sX) (x : Int32) : fX0_isCounter S x = some (if inB x.toInt64 0 ((S.1 12 - 1).toInt64) then 1 else 0) := by unfold fX0_isCounter; rw [x_isIn, Option.bind_some, rz_01]
theorem m_isCounter (M : sM) (x : Int32) : fX3_isCounter M x = some (if inB x.toInt64 0 ((M.1 36 - 1).toInt64) then 1 else 0) := by unfold fX3_isCounter; rw [m_in, Option.bind_some, rz_01]
theorem x_isLoop (S : sX) (x : Int32) : fX0_isLoop S x = some (if inB x.toInt64 0 ((S.1 6 - 1).toInt64) then 1 else 0) := by unfold fX0_isLoop; rw [x_isIn, Option.bind_some, rz_01]
/-! THE INVARIANT between the component's state and the Model's. Places: ad k i; their tags: tg -/
def tot (t m : Nat → Int32) : Nat → Nat → Int32
  | 0, _ => 0
  | l + 1, e => tot t m l e + t l * m (8 * l + e)
def iT (n1 n25 : Int32) (tp : Nat → Int32) (mt : Nat → Int32) (f2 f30 : Int32) : Prop := (∃ t, t ≤ 320 ∧ n1 = nI t ∧ n25 = nI t) ∧ (∀ i, i < 320 → mt i = tp i &&& 255 ∧ -128 ≤ (tp i).toInt ∧ (tp i).toInt < 128) ∧ f2 = f30
def iC (ad : Nat → Nat → Nat) (tg : Nat → Nat × Nat) (h : hH) (a0 : Nat) (n12 n36 : Int32) (mk wd : Nat → Int32) : Prop :=
  (∃ n, 1 ≤ n ∧ n ≤ 4 ∧ n12 = nI n ∧ n36 = nI n) ∧ tg a0 = (1, 0) ∧ (∃ f, h a0 = some (.inl (7, 4, .inr f)) ∧ ∀ c, c < 4 → f c = some (ad 1 c)) ∧
  ∀ c, c < 4 → tg (ad 1 c) = (1, 1 + c) ∧ h (ad 1 c) = some (.inr (1, [.int (mk c), .int (wd c)])) ∧ (∃ k, k < 256 ∧ mk c = nI k) ∧ ∃ w, 2 ≤ w ∧ w ≤ 16 ∧ wd c = nI w
def iR (ad : Nat → Nat → Nat) (tg : Nat → Nat × Nat) (h : hH) (a0 : Nat) (n26 n49 : Int32) (rc re rs : Nat → Int32) : Prop :=
  (∃ n, n ≤ 12 ∧ n26 = nI n ∧ n49 = nI n) ∧ tg a0 = (2, 0) ∧ (∃ f, h a0 = some (.inl (9, 12, .inr f)) ∧ ∀ i, i < 12 → f i = some (ad 2 i)) ∧
  ∀ i, i < 12 → tg (ad 2 i) = (2, 1 + i) ∧ ∃ g, h (ad 2 i) = some (.inl (0, 3, .inl g)) ∧ g 0 = rc i ∧ g 1 = re i ∧ g 2 = rs i
/-- a sheet's row: its kind by the lane, its size, its cells -/
def lnT (ln : Int32) : Nat := if ln = 0 then 2 else if ln = 1 then 3 else 0
def iH (ad : Nat → Nat → Nat) (tg : Nat → Nat × Nat) (row : Nat → Option Nat) (h : hH) (a0 : Nat) (ln sz cl : Nat → Int32) : Prop :=
  tg a0 = (3, 0) ∧ (∃ f, h a0 = some (.inl (8, 4, .inr f)) ∧ ∀ k, k < 4 → f k = some (ad 3 k)) ∧
  ∀ k, k < 4 → tg (ad 3 k) = (3, 1 + k) ∧ h (ad 3 k) = some (.inr (2, [va_rf (row k), .int (sz k)])) ∧
    ((row k = none ∧ ln k = -4) ∨ ∃ a n g, row k = some a ∧ tg a = (4, k) ∧ (ln k = 0 ∨ ln k = 1 ∨ ln k = 2) ∧ n ≤ 40 ∧ sz k = nI n ∧ h a = some (.inl (lnT (ln k), n, .inl g)) ∧ ∀ i, i < n → g i = cl (40 * k + i))
def iK (ad : Nat → Nat → Nat) (tg : Nat → Nat × Nat) (h : hH) (a0 : Nat) (kp : Nat → Int32) : Prop :=
  tg a0 = (5, 0) ∧ (∃ f, h a0 = some (.inl (9, 16, .inr f)) ∧ ∀ l, l < 16 → f l = some (ad 5 l)) ∧
  ∀ l, l < 16 → tg (ad 5 l) = (5, 1 + l) ∧ ∃ g, h (ad 5 l) = some (.inl (0, 8, .inl g)) ∧ ∀ e, e < 8 → g e = kp (8 * l + e) ∧ ∃ k, k ≤ 594000 ∧ kp (8 * l + e) = nI k
/-- lines, steps, totals: aL the array of lines, aS that of steps -/
def iP (ad : Nat → Nat → Nat) (tg : Nat → Nat × Nat) (dp : Nat → Int32) (nl n : Nat) (h : hH) (aL aS : Nat) (n4 n0 n8 n7 n9 n10 : Int32) (tl tk mk lo tm : Nat → Int32) : Prop :=
  nl ≤ 16 ∧ n4 = nI nl ∧ n0 = nI nl ∧ n ≤ 6000 ∧ n8 = nI n ∧ n7 = nI n ∧ n9 = n10 ∧ tg aS = (6, 0) ∧ tg aL = (12, 0) ∧ (∃ f, h aL = some (.inl (4, 16, .inr f)) ∧ ∀ l, l < nl → f l = some (ad 8 l)) ∧
  (∃ st, h aS = some (.inl (0, 6000, .inl st)) ∧ ∀ i, i < n → st i = lo i ∧ ∃ l, l < nl ∧ lo i = nI l) ∧
  (∀ l, l < nl → tg (ad 8 l) = (8, l) ∧ tg (ad 9 l) = (9, l) ∧ h (ad 8 l) = some (.inr (7, [.int (nI l), .int (dp l), .int (tk l), .ref (ad 9 l), .int (tm l)])) ∧ (∃ g, h (ad 9 l) = some (.inl (0, 8, .inl g)) ∧ ∀ e, e < 8 → g e = mk (8 * l + e)) ∧
    (∃ k, 1 ≤ k ∧ k ≤ 20 ∧ tk l = nI k) ∧ (∀ e, e < 8 → ∃ k, k ≤ 99 ∧ mk (8 * l + e) = nI k) ∧ ∃ k, tm l = nI k ∧ 1 ≤ k ∧ k ≤ 6000) ∧
  (∀ e, e < 8 → tl e = tot tm mk nl e ∧ ∃ k, k ≤ 594000 ∧ tl e = nI k) ∧ ∃ k, k ≤ 120000 ∧ n10 = nI k
/-- what stands in a program, in a row: the last is split off. A tree of the library serves: inner 0 l _ i leaf is i and the line l behind it, inner 1 q _ i b is i and the loop q around b behind it -/
abbrev Fo : Type := Std.DTreeMap.Internal.Impl Nat (fun _ => Unit)
abbrev foL (i : Fo) (l : Nat) : Fo := .inner 0 l () i .leaf
abbrev foQ (i : Fo) (q : Nat) (b : Fo) : Fo := .inner 1 q () i b
def foNL : Fo → Nat
  | .leaf => 0
  | .inner s _ _ i b => if s = 0 then foNL i + 1 else foNL i + foNL b
def foNQ : Fo → Nat
  | .leaf => 0
  | .inner s _ _ i b => if s = 0 then foNQ i else foNQ i + 1 + foNQ b
def foK : Fo → List (Bool × Nat)
  | .leaf => []
  | .inner s k _ i _ => foK i ++ [(if s = 0 then false else true, k)]
/-- lines from a on, loops from p on, within the loop par (-4: none), d deep, m times -/
def wF (ch : Nat → List (Bool × Nat)) (ar ou of_ tm dp : Nat → Int32) (dq cm : Nat → Nat) : Fo → Nat → Nat → Int32 → Nat → Nat → Prop
  | .leaf, _, _, _, _, _ => True
  | .inner s k _ i b, a, p, par, d, m => wF ch ar ou of_ tm dp dq cm i a p par d m ∧
    ((s = 0 ∧ b = .leaf ∧ k = a + foNL i ∧ ar k = par ∧ dp k = nI d ∧ tm k = nI m) ∨
      (s = 1 ∧ k = p + foNQ i ∧ ou k = par ∧ dq k = d ∧ cm k = m ∧ d ≤ 3 ∧ ch k = foK b ∧ ∃ n, 1 ≤ n ∧ n ≤ 99 ∧ of_ k = nI n ∧ wF ch ar ou of_ tm dp dq cm b (a + foNL i) (k + 1) (nI k) (d + 1) (m * n)))
/-- loops: aQ the array of loops; dq how deep, cm how often it is come to, ch what is in it (false: a line, true: a loop) -/
def iQ (ad : Nat → Nat → Nat) (tg : Nat → Nat × Nat) (dp : Nat → Int32) (nl nq : Nat) (ch : Nat → List (Bool × Nat)) (dq cm : Nat → Nat) (h : hH) (aQ : Nat) (n6 n4 : Int32) (ar ou of_ tm : Nat → Int32) : Prop :=
  nq ≤ 39 ∧ n6 = nI nq ∧ n4 = nI nq ∧ tg aQ = (12, 1) ∧ (∃ f m, h aQ = some (.inl (5, m, .inr f)) ∧ nq ≤ m ∧ m ≤ 100 ∧ ∀ q, q < nq → f q = some (ad 10 q)) ∧
  (∀ l, l < nl → (ar l = -4 ∧ dp l = 0 ∧ tm l = 1) ∨ ∃ q k, q < nq ∧ ar l = nI q ∧ dp l = nI (dq q + 1) ∧ of_ q = nI k ∧ tm l = nI (cm q * k)) ∧
  (∀ q, q < nq → dq q ≤ 3 ∧ (∃ k, 1 ≤ k ∧ k ≤ 99 ∧ of_ q = nI k) ∧ ((ou q = -4 ∧ dq q = 0 ∧ cm q = 1) ∨ ∃ p k, p < q ∧ ou q = nI p ∧ dq q = dq p + 1 ∧ of_ p = nI k ∧ cm q = cm p * k) ∧
    tg (ad 10 q) = (10, q) ∧ tg (ad 11 q) = (11, q) ∧ h (ad 10 q) = some (.inr (8, [.ref (ad 11 q), .int (nI (ch q).length), .int (of_ q), .int (nI (dq q)), .int (nI (cm q))])) ∧
    (∃ f m, h (ad 11 q) = some (.inl (6, m, .inr f)) ∧ (ch q).length ≤ m ∧ m ≤ 1000 ∧ ∀ j x, (ch q)[j]? = some x → f j = some (if x.1 then ad 10 x.2 else ad 8 x.2))) ∧
  ∃ F : Fo, foNL F = nl ∧ foNQ F = nq ∧ wF ch ar ou of_ tm dp dq cm F 0 0 (-4) 0 1
def INV (S : sX) (M : sM) : Prop := ∃ (ad : Nat → Nat → Nat) (tg : Nat → Nat × Nat) (row : Nat → Option Nat) (dp : Nat → Int32) (nl n nq : Nat) (ch : Nat → List (Bool × Nat)) (dq cm : Nat → Nat),
  iT (S.1 1) (M.1 25) (S.2.1 0) (M.2.2 24) (S.1 2) (M.1 30) ∧ iC ad tg S.2.2.2 (S.2.2.1 13) (S.1 12) (M.1 36) (M.2.2 37) (M.2.2 38) ∧ iR ad tg S.2.2.2 (S.2.2.1 25) (S.1 26) (M.1 49) (M.2.2 50) (M.2.2 51) (M.2.2 52) ∧
  iH ad tg row S.2.2.2 (S.2.2.1 27) (M.2.2 53) (M.2.2 54) (M.2.2 55) ∧ iK ad tg S.2.2.2 (S.2.2.1 11) (M.2.2 35) ∧
  iP ad tg dp nl n S.2.2.2 (S.2.2.1 3) (S.2.2.1 7) (S.1 4) (M.1 0) (S.1 8) (M.1 7) (S.1 9) (M.1 10) (S.2.1 10) (M.2.2 1) (M.2.2 2) (M.2.2 8) (M.2.2 9) ∧
  iQ ad tg dp nl nq ch dq cm S.2.2.2 (S.2.2.1 5) (S.1 6) (M.1 4) (M.2.2 3) (M.2.2 6) (M.2.2 5) (M.2.2 9)
/-- what is kept when the heap changes elsewhere -/
theorem iC.fr {ad : Nat → Nat → Nat} {tg : Nat → Nat × Nat} {h h1 : hH} {a0 : Nat} {n12 n36 : Int32} {mk wd : Nat → Int32} (H : iC ad tg h a0 n12 n36 mk wd) (hf : ∀ a, (tg a).1 = 1 → h1 a = h a) : iC ad tg h1 a0 n12 n36 mk wd := by
  obtain ⟨e1, e2, ⟨f, e3, e4⟩, e5⟩ := H
  exact ⟨e1, e2, ⟨f, by rw [hf a0 (by rw [e2])]; exact e3, e4⟩, fun c hc => ⟨(e5 c hc).1, by rw [hf _ (by rw [(e5 c hc).1])]; exact (e5 c hc).2.1, (e5 c hc).2.2⟩⟩
theorem iR.fr {ad : Nat → Nat → Nat} {tg : Nat → Nat × Nat} {h h1 : hH} {a0 : Nat} {n26 n49 : Int32} {rc re rs : Nat → Int32} (H : iR ad tg h a0 n26 n49 rc re rs) (hf : ∀ a, (tg a).1 = 2 → h1 a = h a) : iR ad tg h1 a0 n26 n49 rc re rs := by
  obtain ⟨e1, e2, ⟨f, e3, e4⟩, e5⟩ := H
  exact ⟨e1, e2, ⟨f, by rw [hf a0 (by rw [e2])]; exact e3, e4⟩, fun c hc => ⟨(e5 c hc).1, by rw [hf _ (by rw [(e5 c hc).1])]; exact (e5 c hc).2⟩⟩
theorem iH.fr {ad : Nat → Nat → Nat} {tg : Nat → Nat × Nat} {row : Nat → Option Nat} {h h1 : hH} {a0 : Nat} {ln sz cl : Nat → Int32} (H : iH ad tg row h a0 ln sz cl) (hf : ∀ a, (tg a).1 = 3 ∨ (tg a).1 = 4 → h1 a = h a) : iH ad tg row h1 a0 ln sz cl := by
  obtain ⟨e2, ⟨f, e3, e4⟩, e5⟩ := H
  refine ⟨e2, ⟨f, by rw [hf a0 (Or.inl (by rw [e2]))]; exact e3, e4⟩, fun c hc => ?_⟩
  obtain ⟨g1, g2, g3⟩ := e5 c hc
  refine ⟨g1, by rw [hf _ (Or.inl (by rw [g1]))]; exact g2, ?_⟩
  rcases g3 with g3 | ⟨a, n, g, k1, k2, k3, k4, k5, k6, k7⟩
  · exact Or.inl g3
  · exact Or.inr ⟨a, n, g, k1, k2, k3, k4, k5, by rw [hf a (Or.inr (by rw [k2]))]; exact k6, k7⟩
theorem iK.fr {ad : Nat → Nat → Nat} {tg : Nat → Nat × Nat} {h h1 : hH} {a0 : Nat} {kp : Nat → Int32} (H : iK ad tg h a0 kp) (hf : ∀ a, (tg a).1 = 5 → h1 a = h a) : iK ad tg h1 a0 kp := by
  obtain ⟨e2, ⟨f, e3, e4⟩, e5⟩ := H
  exact ⟨e2, ⟨f, by rw [hf a0 (by rw [e2])]; exact e3, e4⟩, fun c hc => ⟨(e5 c hc).1, by rw [hf _ (by rw [(e5 c hc).1])]; exact (e5 c hc).2⟩⟩
theorem iP.fr {ad : Nat → Nat → Nat} {tg : Nat → Nat × Nat} {dp : Nat → Int32} {nl n : Nat} {h h1 : hH} {aL aS : Nat} {n4 n0 n8 n7 n9 n10 : Int32} {tl tk mk lo tm : Nat → Int32} (H : iP ad tg dp nl n h aL aS n4 n0 n8 n7 n9 n10 tl tk mk lo tm) (hf : ∀ a, (tg a).1 = 6 ∨ (tg a).1 = 8 ∨ (tg a).1 = 9 ∨ (tg a).1 = 12 → h1 a = h a) : iP ad tg dp nl n h1 aL aS n4 n0 n8 n7 n9 n10 tl tk mk lo tm := by
  obtain ⟨e1, e2, e3, e4, e5, e6, e7, e8, e9, ⟨f, f1, f2⟩, ⟨st, s1, s2⟩, g, r⟩ := H
  refine ⟨e1, e2, e3, e4, e5, e6, e7, e8, e9, ⟨f, by rw [hf aL (Or.inr (Or.inr (Or.inr (by rw [e9]))))]; exact f1, f2⟩, ⟨st, by rw [hf aS (Or.inl (by rw [e8]))]; exact s1, s2⟩, fun l hl => ?_, r⟩
  obtain ⟨k1, k2, k3, ⟨g0, k4, k5⟩, k6⟩ := g l hl
  exact ⟨k1, k2, by rw [hf _ (Or.inr (Or.inl (by rw [k1])))]; exact k3, ⟨g0, by rw [hf _ (Or.inr (Or.inr (Or.inl (by rw [k2]))))]; exact k4, k5⟩, k6⟩
theorem iQ.fr {ad : Nat → Nat → Nat} {tg : Nat → Nat × Nat} {dp : Nat → Int32} {nl nq : Nat} {ch : Nat → List (Bool × Nat)} {dq cm : Nat → Nat} {h h1 : hH} {aQ : Nat} {n6 n4 : Int32} {ar ou of_ tm : Nat → Int32} (H : iQ ad tg dp nl nq ch dq cm h aQ n6 n4 ar ou of_ tm) (hf : ∀ a, (tg a).1 = 10 ∨ (tg a).1 = 11 ∨ (tg a).1 = 12 → h1 a = h a) : iQ ad tg dp nl nq ch dq cm h1 aQ n6 n4 ar ou of_ tm := by
  obtain ⟨e1, e2, e3, e4, ⟨f, m, f1, f2⟩, e5, g, eF⟩ := H
  refine ⟨e1, e2, e3, e4, ⟨f, m, by rw [hf aQ (Or.inr (Or.inr (by rw [e4])))]; exact f1, f2⟩, e5, fun q hq => ?_, eF⟩
  obtain ⟨k1, k2, k3, k4, k5, k6, f0, m0, k7, k8⟩ := g q hq
  exact ⟨k1, k2, k3, k4, k5, by rw [hf _ (Or.inl (by rw [k4]))]; exact k6, f0, m0, by rw [hf _ (Or.inr (Or.inl (by rw [k5])))]; exact k7, k8⟩
/-- a heap changed at one place -/
theorem up_tag {tg : Nat → Nat × Nat} {h : hH} {a b : Nat} {x : Option hC} (hne : tg b ≠ tg a) : va_up h a x b = h b := up_ne (fun e => hne (by rw [e]))
theorem up_kind {tg : Nat → Nat × Nat} {h : hH} {a b k : Nat} {x : Option hC} (hk : (tg a).1 ≠ k) (hb : (tg b).1 = k) : va_up h b x a = h a := up_ne (fun e => hk (by rw [e]; exact hb))
theorem up_up {α : Type} {f : Nat → α} {k : Nat} {v w : α} : va_up (va_up f k v) k w = va_up f k w := by
  funext j
  unfold va_up
  by_cases h : j = k
  · rw [if_pos h, if_pos h]
  · rw [if_neg h, if_neg h, if_neg h]
