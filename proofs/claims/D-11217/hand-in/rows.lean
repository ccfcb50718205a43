section
/-! pure counting: which pages repeat an earlier held page with the same words -/
def pm_has (g : Nat → Bool) (k : Nat → Nat) (x : Nat) : Nat → Bool
  | 0 => false
  | n + 1 => pm_has g k x n || (!g n && k n == k x)
theorem pm_has_f {g : Nat → Bool} {k : Nat → Nat} {x : Nat} : ∀ n, (∀ y, y < n → g y = false → k y ≠ k x) → pm_has g k x n = false := by
  intro n
  induction n with
  | zero => exact fun _ => rfl
  | succ n ih =>
    intro h
    have h1 : pm_has g k x n = false := ih (fun y hy => h y (by omega))
    have h2 : (!g n && k n == k x) = false := by
      cases hg : g n with
      | true => rfl
      | false =>
        have h3 : k n ≠ k x := h n (by omega) hg
        simp [h3]
    show (pm_has g k x n || (!g n && k n == k x)) = false
    rw [h1, h2]
    rfl
theorem pm_has_t {g : Nat → Bool} {k : Nat → Nat} {x y : Nat} (hg : g y = false) (hk : k y = k x) : ∀ n, y < n → pm_has g k x n = true := by
  intro n
  induction n with
  | zero => exact fun h => absurd h (by omega)
  | succ n ih =>
    intro h
    show (pm_has g k x n || (!g n && k n == k x)) = true
    by_cases e : y = n
    · have h2 : (!g n && k n == k x) = true := by
        rw [← e, hg, hk]
        simp
      rw [h2, Bool.or_true]
    · rw [ih (by omega), Bool.true_or]
def pm_cnt (P : Nat → Bool) : Nat → Nat
  | 0 => 0
  | n + 1 => pm_cnt P n + (P n).toNat
theorem pm_cs_t {P : Nat → Bool} {n : Nat} (h : P n = true) : pm_cnt P n + 1 = pm_cnt P (n + 1) := by
  show _ = pm_cnt P n + (P n).toNat
  rw [h]
  rfl
theorem pm_cs_f {P : Nat → Bool} {n : Nat} (h : P n = false) : pm_cnt P n = pm_cnt P (n + 1) := by
  show _ = pm_cnt P n + (P n).toNat
  rw [h]
  rfl
def pm_new (g : Nat → Bool) (k : Nat → Nat) (x : Nat) : Bool := !g x && !pm_has g k x x
def pm_old (g : Nat → Bool) (k : Nat → Nat) (x : Nat) : Bool := !g x && pm_has g k x x
theorem pm_sum (g : Nat → Bool) (k : Nat → Nat) : ∀ n, pm_cnt (pm_new g k) n + pm_cnt (pm_old g k) n = pm_cnt (fun x => !g x) n := by
  intro n
  induction n with
  | zero => rfl
  | succ n ih =>
    show pm_cnt (pm_new g k) n + (pm_new g k n).toNat + (pm_cnt (pm_old g k) n + (pm_old g k n).toNat) = pm_cnt (fun x => !g x) n + (!g n).toNat
    have h : (pm_new g k n).toNat + (pm_old g k n).toNat = (!g n).toNat := by
      unfold pm_new pm_old
      cases g n <;> cases pm_has g k n n <;> rfl
    omega
def pm_k (p q kp kq x : Nat) : Nat := bif x == p then kp else bif x == q then kq else 0
theorem pm_t24 : pm_cnt (fun _ => !false) 24 = 24 := rfl
theorem pm_t23 : ∀ p, p < 24 → pm_cnt (fun x => !(x == p)) 24 = 23 := by decide +kernel
theorem pm_new00 : ∀ p, p < 24 → ∀ q, q < 24 → p ≠ q → pm_cnt (pm_new (fun _ => false) (pm_k p q 0 0)) 24 = 1 := by decide +kernel
theorem pm_new10 : ∀ p, p < 24 → ∀ q, q < 24 → p ≠ q → pm_cnt (pm_new (fun _ => false) (pm_k p q 1 0)) 24 = 2 := by decide +kernel
theorem pm_new02 : ∀ p, p < 24 → ∀ q, q < 24 → p ≠ q → pm_cnt (pm_new (fun _ => false) (pm_k p q 0 2)) 24 = 2 := by decide +kernel
theorem pm_new12 : ∀ p, p < 24 → ∀ q, q < 24 → p ≠ q → pm_cnt (pm_new (fun _ => false) (pm_k p q 1 2)) 24 = 3 := by decide +kernel
end
section
/-! the questions, over any state whose pages hold c (g: the pages that are gone) -/
def pm_Q (a1 a2 a5 a7 a8 : Nat → Int32) (g : Nat → Bool) (c : Nat → Nat → Int32) : Prop :=
  ∀ x, x < 24 → (a1 x = 0 ∧ g x = true ∧ ∀ w, w < 4 → c x w = 0) ∨ (a1 x = 1 ∧ g x = false ∧ ∃ r, r < 16 ∧ a2 x = nI r ∧ ∀ w, w < 4 → a5 (r * 4 + w) = c x w) ∨ (a1 x = 2 ∧ g x = false ∧ ∃ r, r < 24 ∧ a2 x = nI r ∧ a7 r = 4 ∧ ∀ w, w < 4 → a8 r = c x w)
def pm_E (c : Nat → Nat → Int32) (x y : Nat) : Prop := ∀ w, w < 4 → c x w = c y w
theorem pm_at (r w : Nat) : nI r * 4 + nI w = nI (r * 4 + w) := by
  rw [show (4 : Int32) = nI 4 from rfl, pk_mul, nI_add]
section
variable {f h s : Int32} {a1 a2 a3 a4 a5 a6 a7 a8 a9 a10 a11 : Nat → Int32} {g : Nat → Bool} {c : Nat → Nat → Int32} {k : Nat → Nat}
theorem pm_gone {x : Nat} (Q : pm_Q a1 a2 a5 a7 a8 g c) (hx : x < 24) : a1 x = 0 ↔ g x = true := by
  rcases Q x hx with ⟨e, eg, _⟩ | ⟨e, eg, _⟩ | ⟨e, eg, _⟩
  · rw [e, eg]
    exact ⟨fun _ => rfl, fun _ => rfl⟩
  · rw [e, eg]
    exact ⟨fun z => absurd z (by decide), fun z => absurd z (by decide)⟩
  · rw [e, eg]
    exact ⟨fun z => absurd z (by decide), fun z => absurd z (by decide)⟩
theorem pm_peek0 {post : Int32 → Prop} {x w : Nat} (hx : x < 24) (e1 : a1 x = 0) (hp : post 0) : wpX_peek post (f, h, s, a1, a2, a3, a4, a5, a6, a7, a8, a9, a10, a11) (nI x) (nI w) := by
  have ex : (nI x).toNatClampNeg = x := nI_clamp (by omega)
  exact ⟨pk_in x 24 hx, nm_e ⟨pk_in x 24 hx, nm_r (e' := 0) (by rw [ex]; exact e1) (br_t (by decide) hp)⟩⟩
theorem pm_peek1 {post : Int32 → Prop} {x w r : Nat} (hx : x < 24) (hw : w < 4) (hr : r < 16) (e1 : a1 x = 1) (e2 : a2 x = nI r) (hp : post (a5 (r * 4 + w))) : wpX_peek post (f, h, s, a1, a2, a3, a4, a5, a6, a7, a8, a9, a10, a11) (nI x) (nI w) := by
  have ex : (nI x).toNatClampNeg = x := nI_clamp (by omega)
  refine ⟨pk_in x 24 hx, nm_r (e' := nI r) (by rw [ex]; exact e2) ⟨pk_in x 24 hx, nm_r (e' := 1) (by rw [ex]; exact e1) (br_f (by decide) (br_f (by decide) (br_t rfl ?_)))⟩⟩
  rw [pm_at, nI_clamp (show r * 4 + w < 2 ^ 31 by omega)]
  exact ⟨pk_in (r * 4 + w) 64 (by omega), hp⟩
theorem pm_peek2 {post : Int32 → Prop} {x w r : Nat} (hx : x < 24) (hw : w < 4) (hr : r < 24) (e1 : a1 x = 2) (e2 : a2 x = nI r) (e7 : a7 r = 4) (hp : post (a8 r)) : wpX_peek post (f, h, s, a1, a2, a3, a4, a5, a6, a7, a8, a9, a10, a11) (nI x) (nI w) := by
  have ex : (nI x).toNatClampNeg = x := nI_clamp (by omega)
  refine ⟨pk_in x 24 hx, nm_r (e' := nI r) (by rw [ex]; exact e2) ⟨pk_in x 24 hx, nm_r (e' := 2) (by rw [ex]; exact e1) (br_f (by decide) (br_f (by decide) (br_f (by decide) (br_t rfl ?_))))⟩⟩
  rw [nI_clamp (show r < 2 ^ 31 by omega), e7]
  exact ⟨pk_in r 24 hr, pk_le 4 w (fun z => absurd z (by omega)) (fun _ => ⟨pk_in r 24 hr, hp⟩)⟩
theorem pm_peek {post : Int32 → Prop} {x w : Nat} (Q : pm_Q a1 a2 a5 a7 a8 g c) (hx : x < 24) (hw : w < 4) (hp : post (c x w)) : wpX_peek post (f, h, s, a1, a2, a3, a4, a5, a6, a7, a8, a9, a10, a11) (nI x) (nI w) := by
  rcases Q x hx with ⟨e, _, kk⟩ | ⟨e, _, r, hr, e2, kk⟩ | ⟨e, _, r, hr, e2, e7, kk⟩
  · rw [kk w hw] at hp
    exact pm_peek0 hx e hp
  · rw [← kk w hw] at hp
    exact pm_peek1 hx hw hr e e2 hp
  · rw [← kk w hw] at hp
    exact pm_peek2 hx hw hr e e2 e7 hp
theorem pm_eq39 {post : Int32 → Prop} {x y : Nat} (Q : pm_Q a1 a2 a5 a7 a8 g c) (hx : x < 24) (hy : y < 24) (h1 : pm_E c x y → post 1) (h0 : ¬ pm_E c x y → post 0) : ∃ n, wX_equalPages_39 post (nI x) (nI y) f h s a1 a2 a3 a4 a5 a6 a7 a8 a9 a10 a11 n 0 := by
  have key : ∀ n i, i ≤ 4 → 4 - i < n → (∀ w, w < i → c x w = c y w) → wX_equalPages_39 post (nI x) (nI y) f h s a1 a2 a3 a4 a5 a6 a7 a8 a9 a10 a11 n (nI i) := by
    intro n
    induction n with
    | zero => exact fun i _ z => absurd z (by omega)
    | succ n ih =>
      intro i hi hn hh
      exact pk_le 4 i (fun z => h1 (fun w hw => hh w (by omega))) (fun z => pm_peek Q hx z (pm_peek Q hy z (br_c (fun e => nm_r (nI_1 i) (ih (i + 1) (by omega) (by omega) (lt_s hh e))) (fun e => h0 (fun t => e (t i z))))))
  exact ⟨5, key 5 0 (by omega) (by omega) lt_0⟩
theorem pm_equal {post : Int32 → Prop} {x y : Nat} (Q : pm_Q a1 a2 a5 a7 a8 g c) (hx : x < 24) (hy : y < 24) (h1 : pm_E c x y → post 1) (h0 : ¬ pm_E c x y → post 0) : wpX_equalPages post (f, h, s, a1, a2, a3, a4, a5, a6, a7, a8, a9, a10, a11) (nI x) (nI y) := by
  have ex : (nI x).toNatClampNeg = x := nI_clamp (by omega)
  have ey : (nI y).toNatClampNeg = y := nI_clamp (by omega)
  have L := pm_eq39 (f := f) (h := h) (s := s) (a3 := a3) (a4 := a4) (a6 := a6) (a9 := a9) (a10 := a10) (a11 := a11) Q hx hy h1 h0
  refine ⟨pk_in x 24 hx, br_c (fun e1 => ⟨pk_in y 24 hy, br_c (fun e2 => ⟨pk_in x 24 hx, pk_in y 24 hy, br_c (fun e3 => h1 ?_) (fun _ => L)⟩) (fun _ => L)⟩) (fun _ => L)⟩
  rw [ex] at e1
  rw [ey] at e2
  rw [ex, ey] at e3
  rcases Q x hx with ⟨e, _⟩ | ⟨e, _, r, hr, er, kk⟩ | ⟨e, _⟩
  · rw [e] at e1
    exact absurd e1 (by decide)
  · rcases Q y hy with ⟨e', _⟩ | ⟨e', _, r', hr', er', kk'⟩ | ⟨e', _⟩
    · rw [e'] at e2
      exact absurd e2 (by decide)
    · rw [er, er'] at e3
      have e4 : r = r' := (nI_eq (by omega) (by omega)).mp e3
      intro w hw
      rw [← kk w hw, ← kk' w hw, e4]
    · rw [e'] at e2
      exact absurd e2 (by decide)
  · rw [e] at e1
    exact absurd e1 (by decide)
theorem pm_repeats {post : Int32 → Prop} {x : Nat} (Q : pm_Q a1 a2 a5 a7 a8 g c) (K : ∀ x y, x < 24 → y < 24 → (pm_E c x y ↔ k x = k y)) (hx : x < 24) (h1 : pm_has g k x x = true → post 1) (h0 : pm_has g k x x = false → post 0) : wpX_repeats post (f, h, s, a1, a2, a3, a4, a5, a6, a7, a8, a9, a10, a11) (nI x) := by
  have key : ∀ n i, i ≤ x → x - i < n → (∀ y, y < i → g y = false → k y ≠ k x) → wX_repeats_2 post (nI x) f h s a1 a2 a3 a4 a5 a6 a7 a8 a9 a10 a11 n (nI i) := by
    intro n
    induction n with
    | zero => exact fun i _ z => absurd z (by omega)
    | succ n ih =>
      intro i hi hn hh
      have ei : (nI i).toNatClampNeg = i := nI_clamp (by omega)
      refine pk_le x i (fun z => h0 (pm_has_f x (fun y hy => hh y (by omega)))) (fun z => ⟨pk_in i 24 (by omega), br_c (fun e => ?_) (fun e => ?_)⟩)
      · rw [ei] at e
        refine nm_r (nI_1 i) (ih (i + 1) (by omega) (by omega) (lt_s hh (fun gf => ?_)))
        rw [(pm_gone Q (by omega)).mp e] at gf
        exact absurd gf (by decide)
      · rw [ei] at e
        have gf : g i = false := by
          cases hg : g i with
          | false => rfl
          | true => exact absurd ((pm_gone Q (by omega)).mpr hg) e
        exact pm_equal Q (by omega) hx (fun t => br_f (by decide) (h1 (pm_has_t gf ((K i x (by omega) hx).mp t) x z))) (fun t => br_t rfl (nm_r (nI_1 i) (ih (i + 1) (by omega) (by omega) (lt_s hh (fun _ q => t ((K i x (by omega) hx).mpr q))))))
  exact ⟨x + 1, key (x + 1) 0 (by omega) (by omega) lt_0⟩
theorem pm_contents {post : Int32 → Prop} (Q : pm_Q a1 a2 a5 a7 a8 g c) (K : ∀ x y, x < 24 → y < 24 → (pm_E c x y ↔ k x = k y)) (hp : post (nI (pm_cnt (pm_new g k) 24))) : wpX_contents post (f, h, s, a1, a2, a3, a4, a5, a6, a7, a8, a9, a10, a11) := by
  have key : ∀ n i, i ≤ 24 → 24 - i < n → wX_contents_4 post f h s a1 a2 a3 a4 a5 a6 a7 a8 a9 a10 a11 n (nI (pm_cnt (pm_new g k) i)) (nI i) := by
    intro n
    induction n with
    | zero => exact fun i _ z => absurd z (by omega)
    | succ n ih =>
      intro i hi hn
      have ei : (nI i).toNatClampNeg = i := nI_clamp (by omega)
      refine pk_le 24 i (fun z => ?_) (fun z => ⟨pk_in i 24 z, br_c (fun e => nm_r (nI_1 i) ?_) (fun e => ?_)⟩)
      · rw [show i = 24 by omega]
        exact hp
      · rw [ei] at e
        rw [pm_cs_f (show pm_new g k i = false by unfold pm_new; rw [(pm_gone Q z).mp e]; rfl)]
        exact ih (i + 1) (by omega) (by omega)
      · rw [ei] at e
        have gf : g i = false := by
          cases hg : g i with
          | false => rfl
          | true => exact absurd ((pm_gone Q z).mpr hg) e
        refine pm_repeats Q K z (fun t => br_f (by decide) (nm_r (nI_1 i) ?_)) (fun t => br_t rfl (nm_r (nI_1 _) (nm_r (nI_1 i) ?_)))
        · rw [pm_cs_f (show pm_new g k i = false by unfold pm_new; rw [gf, t]; rfl)]
          exact ih (i + 1) (by omega) (by omega)
        · rw [pm_cs_t (show pm_new g k i = true by unfold pm_new; rw [gf, t]; rfl)]
          exact ih (i + 1) (by omega) (by omega)
  exact ⟨25, key 25 0 (by omega) (by omega)⟩
theorem pm_duplicates {post : Int32 → Prop} (Q : pm_Q a1 a2 a5 a7 a8 g c) (K : ∀ x y, x < 24 → y < 24 → (pm_E c x y ↔ k x = k y)) (hp : post (nI (pm_cnt (pm_old g k) 24))) : wpX_duplicates post (f, h, s, a1, a2, a3, a4, a5, a6, a7, a8, a9, a10, a11) := by
  have key : ∀ n i, i ≤ 24 → 24 - i < n → wX_duplicates_4 post f h s a1 a2 a3 a4 a5 a6 a7 a8 a9 a10 a11 n (nI (pm_cnt (pm_old g k) i)) (nI i) := by
    intro n
    induction n with
    | zero => exact fun i _ z => absurd z (by omega)
    | succ n ih =>
      intro i hi hn
      have ei : (nI i).toNatClampNeg = i := nI_clamp (by omega)
      refine pk_le 24 i (fun z => ?_) (fun z => ⟨pk_in i 24 z, br_c (fun e => nm_r (nI_1 i) ?_) (fun e => ?_)⟩)
      · rw [show i = 24 by omega]
        exact hp
      · rw [ei] at e
        rw [pm_cs_f (show pm_old g k i = false by unfold pm_old; rw [(pm_gone Q z).mp e]; rfl)]
        exact ih (i + 1) (by omega) (by omega)
      · rw [ei] at e
        have gf : g i = false := by
          cases hg : g i with
          | false => rfl
          | true => exact absurd ((pm_gone Q z).mpr hg) e
        refine pm_repeats Q K z (fun t => br_f (by decide) (nm_r (nI_1 _) (nm_r (nI_1 i) ?_))) (fun t => br_t rfl (nm_r (nI_1 i) ?_))
        · rw [pm_cs_t (show pm_old g k i = true by unfold pm_old; rw [gf, t]; rfl)]
          exact ih (i + 1) (by omega) (by omega)
        · rw [pm_cs_f (show pm_old g k i = false by unfold pm_old; rw [gf, t]; rfl)]
          exact ih (i + 1) (by omega) (by omega)
  exact ⟨25, key 25 0 (by omega) (by omega)⟩
theorem pm_r35 {post : Int32 → Prop} {x m : Nat} (Q : pm_Q a1 a2 a5 a7 a8 g c) (hx : x < 24) (hm : m < 4) (h1 : post (nI m)) (h0 : post 0) : ∃ n, wX_runsOf_35 post (nI x) (nI m) f h s a1 a2 a3 a4 a5 a6 a7 a8 a9 a10 a11 n (nI (m + 1)) := by
  have key : ∀ n i, i ≤ 4 → 4 - i < n → wX_runsOf_35 post (nI x) (nI m) f h s a1 a2 a3 a4 a5 a6 a7 a8 a9 a10 a11 n (nI i) := by
    intro n
    induction n with
    | zero => exact fun i _ z => absurd z (by omega)
    | succ n ih =>
      intro i hi hn
      exact pk_le 4 i (fun _ => h1) (fun z => pm_peek Q hx z (pm_peek Q hx hm (br_c (fun _ => nm_r (nI_1 i) (ih (i + 1) (by omega) (by omega))) (fun _ => h0))))
  exact ⟨5, key 5 (m + 1) (by omega) (by omega)⟩
theorem pm_runs {post : Int32 → Prop} {x : Nat} (Q : pm_Q a1 a2 a5 a7 a8 g c) (hx : x < 24) (H : ∀ r : Int32, (r = 4 ↔ ∀ w, w < 4 → c x w = c x 0) → post r) : wpX_runsOf post (f, h, s, a1, a2, a3, a4, a5, a6, a7, a8, a9, a10, a11) (nI x) := by
  have key : ∀ n i, i ≤ 4 → 4 - i < n → (∀ w, w < i → c x w = c x 0) → wX_runsOf_9 post (nI x) (c x 0) f h s a1 a2 a3 a4 a5 a6 a7 a8 a9 a10 a11 n (nI i) := by
    intro n
    induction n with
    | zero => exact fun i _ z => absurd z (by omega)
    | succ n ih =>
      intro i hi hn hh
      refine pk_le 4 i (fun z => nm_r (nI_1 i) ⟨1, ?_⟩) (fun z => pm_peek Q hx z (br_c (fun e => nm_r (nI_1 i) (ih (i + 1) (by omega) (by omega) (lt_s hh e))) (fun e => nm_r (nI_1 i) (pm_r35 Q hx z ?_ ?_))))
      · have e4 : i = 4 := by omega
        subst e4
        exact pk_le 4 5 (fun _ => H _ ⟨fun _ => hh, fun _ => rfl⟩) (fun z => absurd z (by omega))
      · refine H _ ⟨fun t => ?_, fun t => absurd (t i z) e⟩
        have t' : i = 4 := (nI_eq (b := 4) (by omega) (by omega)).mp t
        omega
      · exact H _ ⟨fun t => absurd t (by decide), fun t => absurd (t i z) e⟩
  have k1 : wX_runsOf_9 post (nI x) (c x 0) f h s a1 a2 a3 a4 a5 a6 a7 a8 a9 a10 a11 5 1 := key 5 1 (by omega) (by omega) (fun w hw => by rw [show w = 0 by omega])
  unfold wpX_runsOf
  dsimp only
  exact pm_peek (post := fun r => ∃ n, wX_runsOf_9 post (nI x) r f h s a1 a2 a3 a4 a5 a6 a7 a8 a9 a10 a11 n 1) (w := 0) Q hx (by omega) ⟨5, k1⟩
theorem pm_plain {post : Int32 → Prop} {l : Nat → Bool} (Q : pm_Q a1 a2 a5 a7 a8 g c) (K : ∀ x, x < 24 → (l x = true ↔ ∀ w, w < 4 → c x w = c x 0)) (hp : post (nI (pm_cnt (fun x => !g x && l x) 24))) : wpX_plain post (f, h, s, a1, a2, a3, a4, a5, a6, a7, a8, a9, a10, a11) := by
  have key : ∀ n i, i ≤ 24 → 24 - i < n → wX_plain_4 post f h s a1 a2 a3 a4 a5 a6 a7 a8 a9 a10 a11 n (nI (pm_cnt (fun x => !g x && l x) i)) (nI i) := by
    intro n
    induction n with
    | zero => exact fun i _ z => absurd z (by omega)
    | succ n ih =>
      intro i hi hn
      have ei : (nI i).toNatClampNeg = i := nI_clamp (by omega)
      refine pk_le 24 i (fun z => ?_) (fun z => ⟨pk_in i 24 z, br_c (fun e => nm_r (nI_1 i) ?_) (fun e => ?_)⟩)
      · rw [show i = 24 by omega]
        exact hp
      · rw [ei] at e
        have e0 : (fun x => !g x && l x) i = false := by
          show (!g i && l i) = false
          rw [(pm_gone Q z).mp e]
          rfl
        rw [pm_cs_f e0]
        exact ih (i + 1) (by omega) (by omega)
      · rw [ei] at e
        have gf : g i = false := by
          cases hg : g i with
          | false => rfl
          | true => exact absurd ((pm_gone Q z).mpr hg) e
        refine pm_runs Q z (fun r hr => br_c (fun t => nm_r (nI_1 _) (nm_r (nI_1 i) ?_)) (fun t => nm_r (nI_1 i) ?_))
        · have e0 : (fun x => !g x && l x) i = true := by
            show (!g i && l i) = true
            rw [gf, (K i z).mpr (hr.mp t)]
            rfl
          rw [pm_cs_t e0]
          exact ih (i + 1) (by omega) (by omega)
        · have e0 : (fun x => !g x && l x) i = false := by
            show (!g i && l i) = false
            cases hl : l i with
            | false => exact Bool.and_false _
            | true => exact absurd (hr.mpr ((K i z).mp hl)) t
          rw [pm_cs_f e0]
          exact ih (i + 1) (by omega) (by omega)
  exact ⟨25, key 25 0 (by omega) (by omega)⟩
end
end
section
/-! the calls that change a state, on the roads that the law takes -/
theorem pm_bad {post : Int32 → Prop} {x : Nat} (hx : x < 24) (hp : post 0) : wpX_bad post () (nI x) :=
  pk_lt x 0 (fun z => absurd z (by omega)) (fun _ => pk_lt x 24 (fun _ => hp) (fun z => absurd z (by omega)))
theorem pm_put {m : Nat → Int32} {t b i : Nat} {v y : Int32} {a : Nat → Int32} {e : Nat → Int32} (ht : t = b + i) (hi : i < 4) (hy : y = e i) (h1 : ∀ j, j < i → m (b + j) = e j) (h2 : ∀ j, (j < b ∨ b + 4 ≤ j) → m j = a j) :
    (∀ j, j < i + 1 → upd m t y (b + j) = e j) ∧ (∀ j, (j < b ∨ b + 4 ≤ j) → upd m t y j = a j) := by
  refine ⟨fun j hj => ?_, fun j hj => ?_⟩
  · by_cases ej : j = i
    · rw [ej, ht, pk_us, hy]
    · rw [pk_un (by omega)]
      exact h1 j (by omega)
  · rw [pk_un (by omega)]
    exact h2 j hj
section
variable {h s : Int32} {a1 a2 a3 a4 a5 a6 a7 a8 a9 a10 a11 : Nat → Int32} {F k x : Nat}
theorem pm_free {post : Int32 → Prop} (hF : F ≤ 16) (hk : k < F) (u : ∀ j, j < k → a4 j = 1) (z : a4 k = 0) (hp : post (nI k)) : wpX_freeFrame post (nI F, h, s, a1, a2, a3, a4, a5, a6, a7, a8, a9, a10, a11) :=
  pk_loop (σ := Unit) (fun n i _ => wX_freeFrame_2 post (nI F) h s a1 a2 a3 a4 a5 a6 a7 a8 a9 a10 a11 n (nI i)) (fun _ _ => True) k 0 () (by omega) trivial
    (fun n _ _ => pk_le F k (fun z => absurd z (by omega)) (fun _ => ⟨pk_in k 16 (by omega), br_t (by rw [nI_clamp (by omega)]; exact z) hp⟩))
    (fun n i _ hi _ hw => pk_le F i (fun z => absurd z (by omega)) (fun _ => ⟨pk_in i 16 (by omega), br_f (by rw [nI_clamp (by omega), u i hi]; decide) (nm_r (nI_1 i) (hw () trivial))⟩))
theorem pm_take {post : Int32 → St2 → Prop} {y z : Int32} (hF : F ≤ 16) (hk : k < F) (u : ∀ j, j < k → a4 j = 1) (e : a4 k = 0) (hp : post (nI k) (nI F, h, s, a1, a2, a3, a4, a5, a6, a7, a8, a9, a10, a11)) : wpX_takeFrame post (nI F, h, s, a1, a2, a3, a4, a5, a6, a7, a8, a9, a10, a11) y z := by
  unfold wpX_takeFrame
  dsimp only
  exact pm_free hF hk u e ⟨1, pk_le 72 0 (fun z => absurd z (by omega)) (fun _ => pk_le 0 k (fun _ => pk_le 0 k (fun _ => hp) (fun z => absurd z (by omega))) (fun z => absurd z (by omega)))⟩
theorem pm_let2 {post : St2 → Prop} {f : Int32} {r : Nat} (hx : x < 24) (hr : r < 24) (e1 : a1 x = 2) (e2 : a2 x = nI r) (hp : post (f, h, s, upd a1 x 0, a2, a3, a4, a5, upd a6 r 0, a7, a8, a9, a10, a11)) : wpX_letGo post (f, h, s, a1, a2, a3, a4, a5, a6, a7, a8, a9, a10, a11) (nI x) := by
  have ex : (nI x).toNatClampNeg = x := nI_clamp (by omega)
  have er : (nI r).toNatClampNeg = r := nI_clamp (by omega)
  refine ⟨pk_in x 24 hx, nm_r (e' := nI r) (by rw [ex]; exact e2) ⟨pk_in x 24 hx, br_f (by rw [ex, e1]; decide) ?_⟩⟩
  refine ⟨pk_in x 24 hx, br_t (by rw [ex]; exact e1) ⟨pk_in r 24 hr, nm_r (e' := upd a6 r 0) (by rw [er]) ?_⟩⟩
  exact ⟨pk_in x 24 hx, br_f (by rw [ex, e1]; decide) ⟨pk_in x 24 hx, nm_r (e' := upd a1 x 0) (by rw [ex]) hp⟩⟩
theorem pm_let1 {post : St2 → Prop} {f : Int32} {r : Nat} (hx : x < 24) (hr : r < 16) (e1 : a1 x = 1) (e2 : a2 x = nI r) (hp : post (f, h, s, upd a1 x 0, a2, a3, upd a4 r (a4 r - 1), a5, a6, a7, a8, a9, a10, a11)) : wpX_letGo post (f, h, s, a1, a2, a3, a4, a5, a6, a7, a8, a9, a10, a11) (nI x) := by
  have ex : (nI x).toNatClampNeg = x := nI_clamp (by omega)
  have er : (nI r).toNatClampNeg = r := nI_clamp (by omega)
  refine ⟨pk_in x 24 hx, nm_r (e' := nI r) (by rw [ex]; exact e2) ⟨pk_in x 24 hx, br_t (by rw [ex]; exact e1) ⟨pk_in r 16 hr, pk_in r 16 hr, nm_r (e' := upd a4 r (a4 r - 1)) (by rw [er]) ?_⟩⟩⟩
  refine ⟨pk_in x 24 hx, br_f (by rw [ex, e1]; decide) ?_⟩
  exact ⟨pk_in x 24 hx, br_f (by rw [ex, e1]; decide) ⟨pk_in x 24 hx, nm_r (e' := upd a1 x 0) (by rw [ex]) hp⟩⟩
/-- a squeezed page of zeros comes into the free frame k -/
theorem pm_bring {post : St2 → Prop} {y : Int32} (hF : F ≤ 16) (hk : k < F) (u : ∀ j, j < k → a4 j = 1) (z : a4 k = 0) (hx : x < 24) (e1 : a1 x = 2) (e2 : a2 x = nI x) (e7 : a7 x = 4) (e8 : a8 x = 0)
    (H : ∀ a5' : Nat → Int32, (∀ i, i < 4 → a5' (k * 4 + i) = 0) → (∀ j, (j < k * 4 ∨ k * 4 + 4 ≤ j) → a5' j = a5 j) → post (nI F, h, s, upd (upd a1 x 0) x 1, upd a2 x (nI k), upd a3 x 1, upd a4 k 1, a5', upd a6 x 0, a7, a8, a9, a10, a11)) :
    wpX_bringIn post (nI F, h, s, a1, a2, a3, a4, a5, a6, a7, a8, a9, a10, a11) (nI x) y := by
  have ex : (nI x).toNatClampNeg = x := nI_clamp (by omega)
  have ek : (nI k).toNatClampNeg = k := nI_clamp (by omega)
  refine ⟨pk_in x 24 hx, nm_r (e' := upd a3 x 1) (by rw [ex]) ⟨pk_in x 24 hx, br_f (by rw [ex, e1]; decide) (pm_take hF hk u z ?_)⟩⟩
  refine pk_loop (fun n i m => wX_bringIn_28 post (nI x) (nI k) (nI F) h s n (nI i) a1 a2 (upd a3 x 1) a4 m a6 a7 a8 a9 a10 a11) (fun i m => (∀ j, j < i → m (k * 4 + j) = 0) ∧ (∀ j, (j < k * 4 ∨ k * 4 + 4 ≤ j) → m j = a5 j)) 4 0 a5 (by omega) ⟨lt_0, fun _ _ => rfl⟩ ?_ ?_
  · intro n m hm
    refine pk_le 4 4 (fun _ => pm_let2 hx hx e1 e2 ?_) (fun z => absurd z (by omega))
    exact ⟨pk_in k 16 (by omega), nm_r (e' := upd a4 k 1) (by rw [ek]) ⟨pk_in x 24 hx, nm_r (e' := upd (upd a1 x 0) x 1) (by rw [ex]) ⟨pk_in x 24 hx, nm_r (e' := upd a2 x (nI k)) (by rw [ex]) (H m hm.1 hm.2)⟩⟩⟩
  · intro n i m hi hm hw
    refine pk_le 4 i (fun z => absurd z (by omega)) (fun _ => pm_peek2 hx hi hx e1 e2 e7 ?_)
    rw [e8]
    refine ⟨pk_in (k * 4 + i) 64 (by omega) (pm_at k i), nm_r (e' := upd m (k * 4 + i) 0) (by rw [pm_at, nI_clamp (by omega)]) (nm_r (nI_1 i) (hw _ ?_))⟩
    exact pm_put (v := 0) (e := fun _ => 0) rfl hi rfl hm.1 hm.2
theorem pm_own {post : St2 → Prop} (hF : F ≤ 16) (hk : k < F) (u : ∀ j, j < k → a4 j = 1) (z : a4 k = 0) (hx : x < 24) (e1 : a1 x = 2) (e2 : a2 x = nI x) (e7 : a7 x = 4) (e8 : a8 x = 0)
    (H : ∀ a5' : Nat → Int32, (∀ i, i < 4 → a5' (k * 4 + i) = 0) → (∀ j, (j < k * 4 ∨ k * 4 + 4 ≤ j) → a5' j = a5 j) → post (nI F, h, s, upd (upd a1 x 0) x 1, upd a2 x (nI k), upd a3 x 1, upd a4 k 1, a5', upd a6 x 0, a7, a8, a9, a10, a11)) :
    wpX_own post (nI F, h, s, a1, a2, a3, a4, a5, a6, a7, a8, a9, a10, a11) (nI x) := by
  have ex : (nI x).toNatClampNeg = x := nI_clamp (by omega)
  have ek : (nI k).toNatClampNeg = k := nI_clamp (by omega)
  unfold wpX_own
  dsimp only
  refine pm_bring hF hk u z hx e1 e2 e7 e8 (fun a5' m1 m2 => ?_)
  exact ⟨pk_in x 24 hx, nm_r (e' := nI k) (by rw [ex]; exact pk_us) ⟨pk_in k 16 (by omega), br_t (by rw [ek]; exact pk_us) (H a5' m1 m2)⟩⟩
theorem pm_fill {post : Int32 → St2 → Prop} {v : Int32} (hF : F ≤ 16) (hk : k < F) (u : ∀ j, j < k → a4 j = 1) (z : a4 k = 0) (hx : x < 24) (e1 : a1 x = 2) (e2 : a2 x = nI x) (e7 : a7 x = 4) (e8 : a8 x = 0)
    (H : ∀ a5' : Nat → Int32, (∀ i, i < 4 → a5' (k * 4 + i) = v) → (∀ j, (j < k * 4 ∨ k * 4 + 4 ≤ j) → a5' j = a5 j) → post 0 (nI F, h, s, upd (upd a1 x 0) x 1, upd a2 x (nI k), upd a3 x 1, upd a4 k 1, a5', upd a6 x 0, a7, a8, a9, a10, a11)) :
    wpX_fill post (nI F, h, s, a1, a2, a3, a4, a5, a6, a7, a8, a9, a10, a11) (nI x) v := by
  have ex : (nI x).toNatClampNeg = x := nI_clamp (by omega)
  unfold wpX_fill
  dsimp only
  refine pm_bad hx (br_t rfl (pm_own hF hk u z hx e1 e2 e7 e8 (fun a5' m1 m2 => ?_)))
  refine pk_loop (fun n i m => wX_fill_16 post (nI x) v (nI F) h s n (nI i) (upd (upd a1 x 0) x 1) (upd a2 x (nI k)) (upd a3 x 1) (upd a4 k 1) m (upd a6 x 0) a7 a8 a9 a10 a11) (fun i m => (∀ j, j < i → m (k * 4 + j) = v) ∧ (∀ j, (j < k * 4 ∨ k * 4 + 4 ≤ j) → m j = a5 j)) 4 0 a5' (by omega) ⟨lt_0, m2⟩ ?_ ?_
  · intro n m hm
    exact pk_le 4 4 (fun _ => H m hm.1 hm.2) (fun z => absurd z (by omega))
  · intro n i m hi hm hw
    have ea : upd a2 x (nI k) (nI x).toNatClampNeg * 4 + nI i = nI (k * 4 + i) := by
      rw [ex, pk_us, pm_at]
    refine pk_le 4 i (fun z => absurd z (by omega)) (fun _ => ⟨pk_in x 24 hx, pk_in (k * 4 + i) 64 (by omega) ea, nm_r (e' := upd m (k * 4 + i) v) (by rw [ea, nI_clamp (by omega)]) (nm_r (nI_1 i) (hw _ ?_))⟩)
    exact pm_put (v := 0) (e := fun _ => v) rfl hi rfl hm.1 hm.2
theorem pm_write {post : Int32 → St2 → Prop} {v : Int32} {w : Nat} (hw : w < 4) (hF : F ≤ 16) (hk : k < F) (u : ∀ j, j < k → a4 j = 1) (z : a4 k = 0) (hx : x < 24) (e1 : a1 x = 2) (e2 : a2 x = nI x) (e7 : a7 x = 4) (e8 : a8 x = 0)
    (H : ∀ a5' : Nat → Int32, (∀ i, i < 4 → a5' (k * 4 + i) = if i = w then v else 0) → (∀ j, (j < k * 4 ∨ k * 4 + 4 ≤ j) → a5' j = a5 j) → post 0 (nI F, h, s, upd (upd a1 x 0) x 1, upd a2 x (nI k), upd a3 x 1, upd a4 k 1, a5', upd a6 x 0, a7, a8, a9, a10, a11)) :
    wpX_write post (nI F, h, s, a1, a2, a3, a4, a5, a6, a7, a8, a9, a10, a11) (nI x) (nI w) v := by
  have ex : (nI x).toNatClampNeg = x := nI_clamp (by omega)
  have ec : (nI (k * 4 + w)).toNatClampNeg = k * 4 + w := nI_clamp (by omega)
  unfold wpX_write
  dsimp only
  refine pm_bad hx (br_t rfl (pk_lt w 0 (fun z => absurd z (by omega)) (fun _ => pk_lt w 4 (fun _ => pm_own hF hk u z hx e1 e2 e7 e8 (fun a5' m1 m2 => ?_)) (fun z => absurd z (by omega)))))
  refine ⟨pk_in x 24 hx, nm_r (e' := nI (k * 4 + w)) (by rw [ex]; show upd a2 x (nI k) x * 4 + nI w = _; rw [pk_us, pm_at]) ⟨pk_in (k * 4 + w) 64 (by omega), nm_r (e' := 0) (by rw [ec]; exact m1 w hw) ⟨pk_in (k * 4 + w) 64 (by omega), nm_r (e' := upd a5' (k * 4 + w) v) (by rw [ec]) (H _ (fun i hi => ?_) (fun j hj => ?_))⟩⟩⟩
  · by_cases ei : i = w
    · rw [if_pos ei, ei, pk_us]
    · rw [if_neg ei, pk_un (by omega)]
      exact m1 i hi
  · rw [pk_un (by omega)]
    exact m2 j hj
theorem pm_release {post : Int32 → St2 → Prop} {f : Int32} {r : Nat} (hx : x < 24) (hr : r < 16) (e1 : a1 x = 1) (e2 : a2 x = nI r) (hp : post 0 (f, h, s, upd a1 x 0, a2, a3, upd a4 r (a4 r - 1), a5, a6, a7, a8, a9, a10, a11)) : wpX_release post (f, h, s, a1, a2, a3, a4, a5, a6, a7, a8, a9, a10, a11) (nI x) := by
  have ex : (nI x).toNatClampNeg = x := nI_clamp (by omega)
  unfold wpX_release
  dsimp only
  exact pm_bad hx (br_t rfl ⟨pk_in x 24 hx, br_f (by rw [ex, e1]; decide) (pm_let1 hx hr e1 e2 hp)⟩)
theorem pm_read0 {post : Int32 → St2 → Prop} {f : Int32} {w : Nat} (hx : x < 24) (hw : w < 4) (e1 : a1 x = 0) (hp : post 0 (f, h, s, a1, a2, a3, a4, a5, a6, a7, a8, a9, a10, a11)) : wpX_read post (f, h, s, a1, a2, a3, a4, a5, a6, a7, a8, a9, a10, a11) (nI x) (nI w) := by
  have ex : (nI x).toNatClampNeg = x := nI_clamp (by omega)
  unfold wpX_read
  dsimp only
  exact pm_bad hx (br_t rfl (pk_lt w 0 (fun z => absurd z (by omega)) (fun _ => pk_lt w 4 (fun _ => ⟨pk_in x 24 hx, br_t (by rw [ex]; exact e1) hp⟩) (fun z => absurd z (by omega)))))
theorem pm_read1 {post : Int32 → St2 → Prop} {f : Int32} {w r : Nat} (hx : x < 24) (hw : w < 4) (hr : r < 16) (e1 : a1 x = 1) (e2 : a2 x = nI r) (hp : post (a5 (r * 4 + w)) (f, h, s, a1, a2, upd a3 x 1, a4, a5, a6, a7, a8, a9, a10, a11)) : wpX_read post (f, h, s, a1, a2, a3, a4, a5, a6, a7, a8, a9, a10, a11) (nI x) (nI w) := by
  have ex : (nI x).toNatClampNeg = x := nI_clamp (by omega)
  unfold wpX_read
  dsimp only
  refine pm_bad hx (br_t rfl (pk_lt w 0 (fun z => absurd z (by omega)) (fun _ => pk_lt w 4 (fun _ => ⟨pk_in x 24 hx, br_f (by rw [ex, e1]; decide) ⟨pk_in x 24 hx, nm_r (e' := upd a3 x 1) (by rw [ex]) ⟨pk_in x 24 hx, br_t (by rw [ex]; exact e1) ?_⟩⟩⟩) (fun z => absurd z (by omega)))))
  have ea : a2 (nI x).toNatClampNeg * 4 + nI w = nI (r * 4 + w) := by
    rw [ex, e2, pm_at]
  refine ⟨pk_in x 24 hx, pk_in (r * 4 + w) 64 (by omega) ea, ?_⟩
  rw [ea, nI_clamp (by omega)]
  exact hp
theorem pm_swap {post : Int32 → St2 → Prop} {f : Int32} {y : Nat} (hx : x < 24) (hy : y < 24) (hp : post 0 (f, h, s, upd (upd a1 x (a1 y)) y (a1 x), upd (upd a2 x (a2 y)) y (a2 x), a3, a4, a5, a6, a7, a8, a9, a10, a11)) : wpX_swap post (f, h, s, a1, a2, a3, a4, a5, a6, a7, a8, a9, a10, a11) (nI x) (nI y) := by
  have ex : (nI x).toNatClampNeg = x := nI_clamp (by omega)
  have ey : (nI y).toNatClampNeg = y := nI_clamp (by omega)
  unfold wpX_swap
  dsimp only
  refine pm_bad hx (br_t rfl (pm_bad hy (br_t rfl ?_)))
  rw [ex, ey]
  exact ⟨pk_in x 24 hx, nm_e ⟨pk_in x 24 hx, nm_e ⟨pk_in y 24 hy, pk_in x 24 hx, nm_e ⟨pk_in y 24 hy, pk_in x 24 hx, nm_e ⟨pk_in y 24 hy, nm_e ⟨pk_in y 24 hy, nm_e hp⟩⟩⟩⟩⟩⟩
theorem pm_held0 {post : Int32 → Prop} {f : Int32} (hx : x < 24) (e1 : a1 x = 0) (hp : post 0) : wpX_held post (f, h, s, a1, a2, a3, a4, a5, a6, a7, a8, a9, a10, a11) (nI x) := by
  have ex : (nI x).toNatClampNeg = x := nI_clamp (by omega)
  unfold wpX_held
  dsimp only
  exact pm_bad hx (br_t rfl ⟨pk_in x 24 hx, br_t (by rw [ex]; exact e1) hp⟩)
theorem pm_held1 {post : Int32 → Prop} {f : Int32} (hx : x < 24) (e1 : a1 x = 1) (hp : post 1) : wpX_held post (f, h, s, a1, a2, a3, a4, a5, a6, a7, a8, a9, a10, a11) (nI x) := by
  have ex : (nI x).toNatClampNeg = x := nI_clamp (by omega)
  unfold wpX_held
  dsimp only
  exact pm_bad hx (br_t rfl ⟨pk_in x 24 hx, br_f (by rw [ex, e1]; decide) hp⟩)
theorem pm_same {post : Int32 → Prop} {f : Int32} {y : Nat} {g : Nat → Bool} {c : Nat → Nat → Int32} (Q : pm_Q a1 a2 a5 a7 a8 g c) (hx : x < 24) (hy : y < 24) (h1 : pm_E c x y → post 1) (h0 : ¬ pm_E c x y → post 0) : wpX_same post (f, h, s, a1, a2, a3, a4, a5, a6, a7, a8, a9, a10, a11) (nI x) (nI y) := by
  unfold wpX_same
  dsimp only
  exact pm_bad hx (br_t rfl (pm_bad hy (br_t rfl (pm_equal Q hx hy (fun t => ⟨rfl, h1 t⟩) (fun t => ⟨rfl, h0 t⟩)))))
/-- the constructor: 4 to 16 frames, every page squeezed at its own record, four zeros -/
theorem pm_init117 {post : St2 → Prop} {f : Int32} {mc ms kc ks : Nat} {b3 b4 b5 b8 b9 b10 b11 : Nat → Int32} {b1 b2 b6 b7 : Nat → Int32}
    (H : ∀ a1 a2 a6 a7 : Nat → Int32, (∀ j, j < 24 → a1 j = 2 ∧ a2 j = nI j ∧ a7 j = 4) → post (f, h, s, a1, a2, b3, b4, b5, a6, a7, b8, b9, b10, b11)) :
    ∃ n, wX_init_117 post mc ms kc ks f h s n 0 b1 b2 b3 b4 b5 b6 b7 b8 b9 b10 b11 := by
  refine pk_loop (σ := (Nat → Int32) × (Nat → Int32) × (Nat → Int32) × (Nat → Int32)) (fun n i t => wX_init_117 post mc ms kc ks f h s n (nI i) t.1 t.2.1 b3 b4 b5 t.2.2.1 t.2.2.2 b8 b9 b10 b11) (fun i t => ∀ j, j < i → t.1 j = 2 ∧ t.2.1 j = nI j ∧ t.2.2.2 j = 4) 24 0 (b1, b2, b6, b7) (by omega) lt_0 ?_ ?_
  · intro n t ht
    exact pk_le 24 24 (fun _ => H t.1 t.2.1 t.2.2.1 t.2.2.2 ht) (fun z => absurd z (by omega))
  · intro n i t hi ht hw
    have ei : (nI i).toNatClampNeg = i := nI_clamp (by omega)
    refine pk_le 24 i (fun z => absurd z (by omega)) (fun _ => ⟨pk_in i 24 hi, nm_r (e' := upd t.1 i 2) (by rw [ei]) ⟨pk_in i 24 hi, nm_r (e' := upd t.2.1 i (nI i)) (by rw [ei]) ⟨pk_in i 24 hi, nm_r (e' := upd t.2.2.1 i 1) (by rw [ei]) ⟨pk_in i 24 hi, nm_r (e' := upd t.2.2.2 i 4) (by rw [ei]) (nm_r (nI_1 i) (hw (upd t.1 i 2, upd t.2.1 i (nI i), upd t.2.2.1 i 1, upd t.2.2.2 i 4) ?_))⟩⟩⟩⟩)
    intro j hj
    show upd t.1 i 2 j = 2 ∧ upd t.2.1 i (nI i) j = nI j ∧ upd t.2.2.2 i 4 j = 4
    by_cases ej : j = i
    · rw [ej, pk_us, pk_us, pk_us]
      exact ⟨rfl, rfl, rfl⟩
    · rw [pk_un ej, pk_un ej, pk_un ej]
      exact ht j (by omega)
theorem pm_init {post : St2 → Prop} {mc ms : Nat} (y : Int32) (hm : 11 ≤ mc) (hs : 368 ≤ ms)
    (H : ∀ (F : Nat) (a1 a2 a6 a7 : Nat → Int32), 4 ≤ F → F ≤ 16 → (∀ j, j < 24 → a1 j = 2 ∧ a2 j = nI j ∧ a7 j = 4) → post (nI F, 0, 0, a1, a2, (fun _ => 0), (fun _ => 0), (fun _ => 0), a6, a7, (fun _ => 0), (fun _ => 0), (fun _ => 0), (fun _ => 0))) :
    wpX_init post mc ms (0, 0, 0) y := by
  have I : ∀ F : Nat, 4 ≤ F → F ≤ 16 → ∃ n, wX_init_117 post mc ms 11 368 (nI F) 0 0 n 0 (fun _ => 0) (fun _ => 0) (fun _ => 0) (fun _ => 0) (fun _ => 0) (fun _ => 0) (fun _ => 0) (fun _ => 0) (fun _ => 0) (fun _ => 0) (fun _ => 0) :=
    fun F h4 h16 => pm_init117 (fun a1 a2 a6 a7 ha => H F a1 a2 a6 a7 h4 h16 ha)
  refine ⟨by omega, by omega, by omega, by omega, by omega, by omega, by omega, by omega, by omega, by omega, by omega, by omega, by omega, by omega, by omega, by omega, by omega, by omega, by omega, by omega, by omega, by omega, br_c (fun hy => br_c (fun hz => ?_) (fun _ => I 16 (by omega) (by omega))) (fun _ => br_t (by decide) (I 4 (by omega) (by omega)))⟩
  have hn : ¬ y < 0 := by
    intro z
    have z1 := Int32.lt_iff_toInt_lt.mp z
    have z2 := Int32.le_iff_toInt_le.mp hy
    have z3 : (0 : Int32).toInt = 0 := rfl
    have z4 : (4 : Int32).toInt = 4 := rfl
    omega
  obtain ⟨j, hj, ej⟩ := nI_of2 (n := 16) (show (16 : Int32).toInt = ((16 : Nat) : Int) from rfl) hn hz
  rw [ej] at hy
  have h4 : 4 ≤ j := (nI_leI (a := 4) (by omega) (by omega)).mp hy
  rw [ej]
  exact I j h4 hj
end
end
section
/-! what the pages hold in the law: zeros, the filled page (tag 1), the written page (tag 2) -/
def pm_tag (p q x : Nat) : Nat := if x = p then 1 else if x = q then 2 else 0
def pm_row (v u : Int32) (w t i : Nat) : Int32 := if t = 1 then v else if t = 2 then (if i = w then u else 0) else 0
def pm_n (v u : Int32) (t : Nat) : Nat := if t = 1 then (if v = 0 then 0 else 1) else if t = 2 then (if u = 0 then 0 else 2) else 0
theorem pm_other {w : Nat} : ∃ y, y < 4 ∧ y ≠ w := by
  by_cases e : w = 0
  · exact ⟨1, by omega, by omega⟩
  · exact ⟨0, by omega, by omega⟩
theorem pm_rows (v u : Int32) {w : Nat} (hw : w < 4) (s t : Nat) : (∀ i, i < 4 → pm_row v u w s i = pm_row v u w t i) ↔ pm_n v u s = pm_n v u t := by
  constructor
  · intro H
    obtain ⟨y, hy, ey⟩ := pm_other (w := w)
    have h1 := H w hw
    have h2 := H y hy
    clear H
    unfold pm_row at h1 h2
    unfold pm_n
    grind
  · intro H i hi
    unfold pm_n at H
    unfold pm_row
    grind
theorem pm_kk (v u : Int32) (p q : Nat) : (fun x => pm_n v u (pm_tag p q x)) = pm_k p q (pm_n v u 1) (pm_n v u 2) := by
  funext x
  unfold pm_k pm_tag
  by_cases e : x = p
  · rw [if_pos e, e, beq_self_eq_true]
    rfl
  · rw [if_neg e, beq_eq_false_iff_ne.mpr e]
    by_cases e' : x = q
    · rw [if_pos e', e', beq_self_eq_true]
      rfl
    · rw [if_neg e', beq_eq_false_iff_ne.mpr e']
      rfl
theorem pm_N {v u : Int32} {p q zv zu : Nat} (hp : p < 24) (hq : q < 24) (hpq : p ≠ q) (hv : (v = 0 ∧ zv = 0) ∨ (v ≠ 0 ∧ zv = 1)) (hu : (u = 0 ∧ zu = 0) ∨ (u ≠ 0 ∧ zu = 1)) : pm_cnt (pm_new (fun _ => false) (fun x => pm_n v u (pm_tag p q x))) 24 = 1 + zv + zu := by
  rw [pm_kk]
  have n1 : pm_n v u 1 = if v = 0 then 0 else 1 := rfl
  have n2 : pm_n v u 2 = if u = 0 then 0 else 2 := rfl
  rw [n1, n2]
  rcases hv with ⟨hv, ez⟩ | ⟨hv, ez⟩
  · rcases hu with ⟨hu, ew⟩ | ⟨hu, ew⟩
    · rw [if_pos hv, if_pos hu, ez, ew]
      exact pm_new00 p hp q hq hpq
    · rw [if_pos hv, if_neg hu, ez, ew]
      exact pm_new02 p hp q hq hpq
  · rcases hu with ⟨hu, ew⟩ | ⟨hu, ew⟩
    · rw [if_neg hv, if_pos hu, ez, ew]
      exact pm_new10 p hp q hq hpq
    · rw [if_neg hv, if_neg hu, ez, ew]
      exact pm_new12 p hp q hq hpq
theorem pm_tag_p (p q : Nat) : pm_tag p q p = 1 := if_pos rfl
theorem pm_tag_q {p q : Nat} (h : p ≠ q) : pm_tag p q q = 2 := by
  unfold pm_tag
  rw [if_neg (Ne.symm h), if_pos rfl]
theorem pm_tag_o {p q x : Nat} (h : x ≠ p) (h' : x ≠ q) : pm_tag p q x = 0 := by
  unfold pm_tag
  rw [if_neg h, if_neg h']
/-- the state behind fill and write -/
def pm_T (p q w : Nat) (v u : Int32) (a1 a2 a5 a7 a8 : Nat → Int32) : Prop :=
  a1 p = 1 ∧ a1 q = 1 ∧ (∀ x, x < 24 → x ≠ p → x ≠ q → a1 x = 2 ∧ a2 x = nI x) ∧ a2 p = nI 0 ∧ a2 q = nI 1 ∧ (∀ x, x < 24 → a7 x = 4 ∧ a8 x = 0) ∧ (∀ i, i < 4 → a5 (0 * 4 + i) = v) ∧ (∀ i, i < 4 → a5 (1 * 4 + i) = if i = w then u else 0)
theorem pm_TQ {p q w : Nat} {v u : Int32} {a1 a2 a5 a7 a8 : Nat → Int32} (hpq : p ≠ q) (T : pm_T p q w v u a1 a2 a5 a7 a8) : pm_Q a1 a2 a5 a7 a8 (fun _ => false) (fun x i => pm_row v u w (pm_tag p q x) i) := by
  obtain ⟨t1, t2, t3, t4, t5, t6, t7, t8⟩ := T
  intro x hx
  by_cases ep : x = p
  · subst ep
    refine Or.inr (Or.inl ⟨t1, rfl, 0, by omega, t4, fun i hi => ?_⟩)
    dsimp only
    rw [t7 i hi, pm_tag_p]
    rfl
  · by_cases eq : x = q
    · subst eq
      refine Or.inr (Or.inl ⟨t2, rfl, 1, by omega, t5, fun i hi => ?_⟩)
      dsimp only
      rw [t8 i hi, pm_tag_q hpq]
      rfl
    · refine Or.inr (Or.inr ⟨(t3 x hx ep eq).1, rfl, x, hx, (t3 x hx ep eq).2, (t6 x hx).1, fun i hi => ?_⟩)
      dsimp only
      rw [(t6 x hx).2, pm_tag_o ep eq]
      rfl
theorem pm_TQ0 {p q w : Nat} {v u : Int32} {a1 a2 a5 a7 a8 : Nat → Int32} (hpq : p ≠ q) (T : pm_T p q w v u a1 a2 a5 a7 a8) : pm_Q (upd a1 p 0) a2 a5 a7 a8 (fun x => x == p) (fun x i => pm_row 0 u w (pm_tag p q x) i) := by
  obtain ⟨t1, t2, t3, t4, t5, t6, t7, t8⟩ := T
  intro x hx
  by_cases ep : x = p
  · subst ep
    refine Or.inl ⟨pk_us, beq_self_eq_true x, fun i hi => ?_⟩
    dsimp only
    rw [pm_tag_p]
    rfl
  · rw [pk_un ep]
    by_cases eq : x = q
    · subst eq
      refine Or.inr (Or.inl ⟨t2, beq_eq_false_iff_ne.mpr ep, 1, by omega, t5, fun i hi => ?_⟩)
      dsimp only
      rw [t8 i hi, pm_tag_q hpq]
      rfl
    · refine Or.inr (Or.inr ⟨(t3 x hx ep eq).1, beq_eq_false_iff_ne.mpr ep, x, hx, (t3 x hx ep eq).2, (t6 x hx).1, fun i hi => ?_⟩)
      dsimp only
      rw [(t6 x hx).2, pm_tag_o ep eq]
      rfl
theorem pm_K {v u : Int32} {p q w : Nat} (hw : w < 4) : ∀ x y, x < 24 → y < 24 → (pm_E (fun x i => pm_row v u w (pm_tag p q x) i) x y ↔ (fun x => pm_n v u (pm_tag p q x)) x = (fun x => pm_n v u (pm_tag p q x)) y) :=
  fun x y _ _ => pm_rows v u hw (pm_tag p q x) (pm_tag p q y)
theorem pm_pl0 {v u : Int32} {p q w : Nat} (hu : u = 0) : ∀ x, x < 24 → ((fun _ : Nat => true) x = true ↔ ∀ i, i < 4 → (fun x i => pm_row v u w (pm_tag p q x) i) x i = (fun x i => pm_row v u w (pm_tag p q x) i) x 0) := by
  intro x _
  refine ⟨fun _ i _ => ?_, fun _ => rfl⟩
  show pm_row v u w (pm_tag p q x) i = pm_row v u w (pm_tag p q x) 0
  unfold pm_row
  rw [hu]
  simp only [ite_self]
theorem pm_pl1 {v u : Int32} {p q w : Nat} (hw : w < 4) (hpq : p ≠ q) (hu : ¬ u = 0) : ∀ x, x < 24 → ((fun x : Nat => !(x == q)) x = true ↔ ∀ i, i < 4 → (fun x i => pm_row v u w (pm_tag p q x) i) x i = (fun x i => pm_row v u w (pm_tag p q x) i) x 0) := by
  intro x _
  show (!(x == q)) = true ↔ ∀ i, i < 4 → pm_row v u w (pm_tag p q x) i = pm_row v u w (pm_tag p q x) 0
  by_cases eq : x = q
  · subst eq
    rw [beq_self_eq_true, pm_tag_q hpq]
    refine ⟨fun z => absurd z (by decide), fun z => ?_⟩
    obtain ⟨y, hy, ey⟩ := pm_other (w := w)
    have z1 : (if w = w then u else 0) = (if 0 = w then u else 0) := z w hw
    have z2 : (if y = w then u else 0) = (if 0 = w then u else 0) := z y hy
    rw [← z2, if_pos rfl, if_neg ey] at z1
    exact absurd z1 hu
  · rw [beq_eq_false_iff_ne.mpr eq]
    refine ⟨fun _ i _ => ?_, fun _ => rfl⟩
    by_cases ep : x = p
    · subst ep
      rw [pm_tag_p]
      rfl
    · rw [pm_tag_o ep eq]
      rfl
end
section
/-! the law, from its end -/
section
variable {post : Int32 → St0 → Prop} {mc ms kc ks : Nat} {f h s : Int32} {a1 a2 a3 a4 a5 a6 a7 a8 a9 a10 a11 : Nat → Int32} {p q w : Nat} {v u : Int32}
theorem pm_199 {z0 z1 : Int32} (hp : p < 24) (hq : q < 24) (hw : w < 4) (hpq : p ≠ q) (hz : z1 = z0) (e1 : a1 p = 0) (e2 : a1 q = 1) (e3 : a2 q = nI 1) (e4 : a5 (1 * 4 + w) = u) (H : post 1 ()) :
    wL_lawOf_199 post mc ms u (nI p) (nI q) (nI w) z0 z1 kc ks f h s a1 a2 a3 a4 a5 a6 a7 a8 a9 a10 a11 := by
  have g1 : upd (upd a1 p (a1 q)) q (a1 p) q = 0 := by rw [pk_us, e1]
  have g2 : upd (upd a1 p (a1 q)) q (a1 p) p = 1 := by rw [pk_un hpq, pk_us, e2]
  have g3 : upd (upd a2 p (a2 q)) q (a2 p) p = nI 1 := by rw [pk_un hpq, pk_us, e3]
  exact br_t hz (pm_swap hp hq (br_t rfl (pm_held0 hq g1 (br_t rfl (pm_held1 hp g2 (br_f (by decide) (pm_read1 (r := 1) hp hw (by omega) g2 g3 (br_t e4 (pm_read0 hq hw g1 (br_t rfl H))))))))))
theorem pm_136 {z0 z1 : Int32} (hp : p < 24) (hq : q < 24) (hw : w < 4) (hpq : p ≠ q) (T : pm_T p q w v u a1 a2 a5 a7 a8) (hz : z1 = z0) (H : post 1 ()) :
    wL_lawOf_136 post mc ms u (nI p) (nI q) (nI w) z0 z1 kc ks f h s a1 a2 a3 a4 a5 a6 a7 a8 a9 a10 a11 := by
  have Q := pm_TQ0 hpq T
  have K := pm_K (v := 0) (u := u) (p := p) (q := q) hw
  obtain ⟨t1, t2, t3, t4, t5, t6, t7, t8⟩ := T
  have e1 : upd a1 p 0 p = 0 := pk_us
  have e2 : upd a1 p 0 q = 1 := by rw [pk_un (Ne.symm hpq), t2]
  have e4 : a5 (1 * 4 + w) = u := by rw [t8 w hw, if_pos rfl]
  have hs : nI (pm_cnt (pm_new (fun x => x == p) (fun x => pm_n 0 u (pm_tag p q x))) 24) + nI (pm_cnt (pm_old (fun x => x == p) (fun x => pm_n 0 u (pm_tag p q x))) 24) = 23 := by
    rw [nI_add, pm_sum, pm_t23 p hp]
    rfl
  refine br_t hz (pm_release (r := 0) hp (by omega) t1 t4 (br_t rfl (pm_read0 hp hw e1 (br_t rfl (pm_contents Q K (pm_duplicates Q K (br_t hs (pm_same Q hp hq (fun t => ?_) (fun t => ?_)))))))))
  · refine br_t ?_ (pm_199 hp hq hw hpq rfl e1 e2 t5 e4 H)
    have t' : pm_row 0 u w (pm_tag p q p) w = pm_row 0 u w (pm_tag p q q) w := t w hw
    rw [pm_tag_p, pm_tag_q hpq] at t'
    have t'' : (0 : Int32) = if w = w then u else 0 := t'
    rw [if_pos rfl] at t''
    exact t''.symm
  · refine br_f (fun hu => t (fun i hi => ?_)) (pm_199 hp hq hw hpq rfl e1 e2 t5 e4 H)
    show pm_row 0 u w (pm_tag p q p) i = pm_row 0 u w (pm_tag p q q) i
    rw [pm_tag_p, pm_tag_q hpq, hu]
    show (0 : Int32) = if i = w then 0 else 0
    rw [ite_self]
theorem pm_90 {zv zu : Nat} (hp : p < 24) (hq : q < 24) (hw : w < 4) (hpq : p ≠ q) (T : pm_T p q w v u a1 a2 a5 a7 a8) (hv : (v = 0 ∧ zv = 0) ∨ (v ≠ 0 ∧ zv = 1)) (hu : (u = 0 ∧ zu = 0) ∨ (u ≠ 0 ∧ zu = 1)) (H : post 1 ()) :
    wL_lawOf_90 post mc ms u (nI p) (nI q) (nI w) (nI zu) (nI zv) kc ks f h s a1 a2 a3 a4 a5 a6 a7 a8 a9 a10 a11 := by
  have Q := pm_TQ hpq T
  have K := pm_K (v := v) (u := u) (p := p) (q := q) hw
  have N := pm_N hp hq hpq hv hu
  have S := pm_sum (fun _ => false) (fun x => pm_n v u (pm_tag p q x)) 24
  rw [pm_t24] at S
  have r1 : nI (pm_cnt (pm_new (fun _ => false) (fun x => pm_n v u (pm_tag p q x))) 24) = 1 + nI (zv + zu) := by
    rw [N]
    show _ = nI 1 + nI (zv + zu)
    rw [nI_add]
    exact congrArg nI (by omega)
  have r2 : nI (pm_cnt (pm_old (fun _ => false) (fun x => pm_n v u (pm_tag p q x))) 24) = 23 - nI (zv + zu) := by
    show _ = nI 23 - nI (zv + zu)
    rw [pk_sub (by omega)]
    exact congrArg nI (by omega)
  refine nm_r (nI_add zv zu) (pm_contents Q K (br_t r1 (pm_duplicates Q K (br_t r2 ?_))))
  by_cases e : u = 0
  · exact pm_plain Q (pm_pl0 e) (br_t e (pm_136 hp hq hw hpq T rfl H))
  · exact pm_plain Q (pm_pl1 hw hpq e) (br_f e (pm_136 hp hq hw hpq T (congrArg nI (pm_t23 q hq)) H))
theorem pm_81 {zv : Nat} (hp : p < 24) (hq : q < 24) (hw : w < 4) (hpq : p ≠ q) (T : pm_T p q w v u a1 a2 a5 a7 a8) (hv : (v = 0 ∧ zv = 0) ∨ (v ≠ 0 ∧ zv = 1)) (H : post 1 ()) :
    wL_lawOf_81 post mc ms u (nI p) (nI q) (nI w) (nI zv) kc ks f h s a1 a2 a3 a4 a5 a6 a7 a8 a9 a10 a11 :=
  br_c (fun e => pm_90 (zu := 0) hp hq hw hpq T hv (Or.inl ⟨e, rfl⟩) H) (fun e => pm_90 (zu := 1) hp hq hw hpq T hv (Or.inr ⟨e, rfl⟩) H)
theorem pm_lawOf (x y : Int32) (hm : 12 ≤ mc) (hs : 382 ≤ ms) (H : post 1 ()) : wpL_lawOf post mc ms () x y v u := by
  obtain ⟨i, hi, ei⟩ := pk_andE x (m := 255) 8 (by decide)
  obtain ⟨j, hj, ej⟩ := pk_andE (x >>> ((8 : Int32) &&& 31)) (m := 255) 8 (by decide)
  obtain ⟨w, hw, ew⟩ := pk_andE y (m := 3) 2 (by decide)
  have hp : i % 24 < 24 := by omega
  have hq : (i % 24 + 1 + j % 23) % 24 < 24 := by omega
  have hpq : i % 24 ≠ (i % 24 + 1 + j % 23) % 24 := by omega
  have ep : (x &&& 255) - (x &&& 255) / 24 * 24 = nI (i % 24) := by
    rw [ei]
    exact pk_rem (d := 24) (by omega) (by omega) (by omega)
  have e23 : ((x >>> ((8 : Int32) &&& 31)) &&& 255) - ((x >>> ((8 : Int32) &&& 31)) &&& 255) / 23 * 23 = nI (j % 23) := by
    rw [ej]
    exact pk_rem (d := 23) (by omega) (by omega) (by omega)
  have eq : ((nI (i % 24) + 1) + (((x >>> ((8 : Int32) &&& 31)) &&& 255) - ((x >>> ((8 : Int32) &&& 31)) &&& 255) / 23 * 23)) - ((nI (i % 24) + 1) + (((x >>> ((8 : Int32) &&& 31)) &&& 255) - ((x >>> ((8 : Int32) &&& 31)) &&& 255) / 23 * 23)) / 24 * 24 = nI ((i % 24 + 1 + j % 23) % 24) := by
    rw [e23, nI_1, nI_add]
    exact pk_rem (d := 24) (by omega) (by omega) (by omega)
  generalize i % 24 = p at *
  generalize (p + 1 + j % 23) % 24 = q at *
  have hqp : q ≠ p := Ne.symm hpq
  refine ⟨by omega, by omega, 11, 368, by omega, by omega, pm_init y (by omega) (by omega) (fun F a1 a2 a6 a7 h4 h16 ha => ⟨by decide, nm_r ep ⟨by decide, by decide, nm_r eq (nm_r ew ?_)⟩⟩)⟩
  refine pm_fill (k := 0) h16 (by omega) (fun j hj => absurd hj (by omega)) rfl hp (ha p hp).1 (ha p hp).2.1 (ha p hp).2.2 rfl (fun m m1 m2 => br_t rfl ?_)
  refine pm_write (k := 1) (by omega) h16 (by omega) (fun j hj => ?_) rfl hq ?_ ?_ (ha q hq).2.2 rfl (fun m' m1' m2' => br_t rfl ?_)
  · rw [show j = 0 by omega]
    rfl
  · rw [pk_un hqp, pk_un hqp]
    exact (ha q hq).1
  · rw [pk_un hqp]
    exact (ha q hq).2.1
  · have T : pm_T p q w v u (upd (upd (upd (upd a1 p 0) p 1) q 0) q 1) (upd (upd a2 p (nI 0)) q (nI 1)) m' a7 (fun _ => 0) := by
      refine ⟨?_, pk_us, fun x hx ep eq => ?_, ?_, pk_us, fun x hx => ⟨(ha x hx).2.2, rfl⟩, fun i hi => ?_, m1'⟩
      · rw [pk_un hpq, pk_un hpq, pk_us]
      · rw [pk_un eq, pk_un eq, pk_un ep, pk_un ep, pk_un eq, pk_un ep]
        exact ⟨(ha x hx).1, (ha x hx).2.1⟩
      · rw [pk_un hpq, pk_us]
      · rw [m2' (0 * 4 + i) (by omega)]
        exact m1 i hi
    exact br_c (fun e => pm_81 (zv := 0) hp hq (by omega) hpq T (Or.inl ⟨e, rfl⟩) H) (fun e => pm_81 (zv := 1) hp hq (by omega) hpq T (Or.inr ⟨e, rfl⟩) H)
end
theorem pm_cell {post : Int32 → Prop} {L : Nat} {xs : Nat → Int32} (i : Nat) (hi : i < 4) (hL : L ≤ 4) (H : ∀ r, post r) : wpL_cellAt post L xs () (nI i) :=
  pk_le L i (fun _ => H 0) (fun z => ⟨pk_in i L z, H _⟩)
theorem i_vc (xs : Nat → Int32) (L : Nat) (hL : L ≤ 4) : wpL_law (fun r => r = 1) L xs :=
  pm_cell 0 (by omega) hL (fun r1 => pm_cell 1 (by omega) hL (fun r2 => pm_cell 2 (by omega) hL (fun r3 => pm_cell 3 (by omega) hL (fun r4 => ⟨188, 3008, by omega, by omega, pm_lawOf r1 r2 (by omega) (by omega) rfl⟩))))
end
