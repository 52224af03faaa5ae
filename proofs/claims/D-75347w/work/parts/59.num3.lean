section
/-! NUMBERS 1: sums of whole numbers, their products, their lengths -/
theorem sq_le {x y : Int} (h0 : 0 ≤ x) (h : y * y ≤ x * x) : y ≤ x := by
  refine Int.not_lt.mp (fun hlt => ?_)
  have h1 : x * x ≤ x * y := Int.mul_le_mul_of_nonneg_left (by omega) h0
  have h2 : x * y < y * y := Int.mul_lt_mul_of_pos_right hlt (by omega)
  omega
def iS (f : Nat → Int) : Nat → Int
  | 0 => 0
  | n + 1 => iS f n + f n
theorem iS_congr {f g : Nat → Int} {n : Nat} (h : ∀ k, k < n → f k = g k) : iS f n = iS g n := by
  induction n with
  | zero => rfl
  | succ n ih => rw [iS, iS, ih (fun k hk => h k (by omega)), h n (by omega)]
theorem iS_add (f g : Nat → Int) (n : Nat) : iS (fun k => f k + g k) n = iS f n + iS g n := by
  induction n with
  | zero => rfl
  | succ n ih => rw [iS, iS, iS, ih]; omega
theorem iS_mul (c : Int) (f : Nat → Int) (n : Nat) : iS (fun k => c * f k) n = c * iS f n := by
  induction n with
  | zero => rw [iS, iS, Int.mul_zero]
  | succ n ih => rw [iS, iS, ih, Int.mul_add]
theorem iS_nn {f : Nat → Int} {n : Nat} (h : ∀ k, k < n → 0 ≤ f k) : 0 ≤ iS f n := by
  induction n with
  | zero => exact Int.le_refl 0
  | succ n ih => rw [iS]; have := ih (fun k hk => h k (by omega)); have := h n (by omega); omega
theorem iS_le {f g : Nat → Int} {n : Nat} (h : ∀ k, k < n → f k ≤ g k) : iS f n ≤ iS g n := by
  induction n with
  | zero => exact Int.le_refl 0
  | succ n ih => rw [iS, iS]; have := ih (fun k hk => h k (by omega)); have := h n (by omega); omega
theorem iS_c (c : Int) (n : Nat) : iS (fun _ => c) n = n * c := by
  induction n with
  | zero => rw [iS]; exact (Int.zero_mul c).symm
  | succ n ih => rw [iS, ih]; grind
theorem iS_0 {n : Nat} : iS (fun _ => 0) n = 0 := by rw [iS_c, Int.mul_zero]
theorem iS_swap (g : Nat → Nat → Int) (m n : Nat) : iS (fun r => iS (fun c => g r c) n) m = iS (fun c => iS (fun r => g r c) m) n := by
  induction m with
  | zero => rw [iS]; exact iS_0.symm
  | succ m ih => rw [iS, ih, ← iS_add]; exact iS_congr (fun c _ => rfl)
theorem gcs_step {S F G s A Z : Int} (hF : 0 ≤ F) (hG : 0 ≤ G) (hA : 0 ≤ A) (hZ : 0 ≤ Z) (h : S * S ≤ F * G) (h2 : s * s ≤ A * Z) : (S + s) * (S + s) ≤ (F + A) * (G + Z) := by
  have h1 : 2 * (S * s) ≤ F * Z + G * A := by
    refine sq_le (Int.add_nonneg (Int.mul_nonneg hF hZ) (Int.mul_nonneg hG hA)) ?_
    have h3 : 0 ≤ (F * Z - G * A) * (F * Z - G * A) := sq_nn _
    have h4 : (S * S) * (s * s) ≤ (F * G) * (A * Z) := Int.mul_le_mul h h2 (sq_nn s) (Int.mul_nonneg hF hG)
    grind
  grind
theorem gcs {s A Z : Nat → Int} {n : Nat} (hA : ∀ k, k < n → 0 ≤ A k) (hZ : ∀ k, k < n → 0 ≤ Z k) (h : ∀ k, k < n → s k * s k ≤ A k * Z k) : iS s n * iS s n ≤ iS A n * iS Z n := by
  induction n with
  | zero => exact Int.le_refl 0
  | succ n ih => exact gcs_step (iS_nn (fun k hk => hA k (by omega))) (iS_nn (fun k hk => hZ k (by omega))) (hA n (by omega)) (hZ n (by omega)) (ih (fun k hk => hA k (by omega)) (fun k hk => hZ k (by omega)) (fun k hk => h k (by omega))) (h n (by omega))
abbrev iD (f g : Nat → Int) (n : Nat) : Int := iS (fun k => f k * g k) n
abbrev iN (f : Nat → Int) (n : Nat) : Int := iD f f n
theorem iN_nn {f : Nat → Int} {n : Nat} : 0 ≤ iN f n := iS_nn (fun k _ => sq_nn (f k))
theorem iD_comm (f g : Nat → Int) (n : Nat) : iD f g n = iD g f n := iS_congr (fun k _ => Int.mul_comm _ _)
theorem cs (f g : Nat → Int) (n : Nat) : iD f g n * iD f g n ≤ iN f n * iN g n :=
  gcs (fun k _ => sq_nn (f k)) (fun k _ => sq_nn (g k)) (fun k _ => by have : f k * g k * (f k * g k) = f k * f k * (g k * g k) := by grind
                                                                       omega)
/-- the length of a sum of two -/
theorem iN_comb (a b : Int) (f g : Nat → Int) (n : Nat) : iN (fun k => a * f k + b * g k) n = a * a * iN f n + 2 * (a * b) * iD f g n + b * b * iN g n := by
  induction n with
  | zero => simp [iS]
  | succ n ih =>
    have e1 : iN (fun k => a * f k + b * g k) (n + 1) = iN (fun k => a * f k + b * g k) n + (a * f n + b * g n) * (a * f n + b * g n) := rfl
    have e2 : iN f (n + 1) = iN f n + f n * f n := rfl
    have e3 : iD f g (n + 1) = iD f g n + f n * g n := rfl
    have e4 : iN g (n + 1) = iN g n + g n * g n := rfl
    rw [e1, e2, e3, e4, ih]
    grind
theorem iD_comb (a b : Int) (f g h : Nat → Int) (n : Nat) : iD h (fun k => a * f k + b * g k) n = a * iD h f n + b * iD h g n := by
  rw [← iS_mul, ← iS_mul, ← iS_add]
  exact iS_congr (fun k _ => by grind)
def bN (f : Nat → Int) (n : Nat) (B : Int) : Prop := 0 ≤ B ∧ iN f n ≤ B * B
theorem bN.mono {f : Nat → Int} {n : Nat} {B C : Int} (h : bN f n B) (hB : B ≤ C) : bN f n C := ⟨Int.le_trans h.1 hB, Int.le_trans h.2 (sq_mono h.1 hB)⟩
theorem bN.congr {f g : Nat → Int} {n : Nat} {B : Int} (h : bN f n B) (e : ∀ k, k < n → g k = f k) : bN g n B := ⟨h.1, by rw [show iN g n = iN f n from iS_congr (fun k hk => by rw [e k hk])]; exact h.2⟩
theorem bN.dot {f g : Nat → Int} {n : Nat} {B C : Int} (h : bN f n B) (h2 : bN g n C) : -(B * C) ≤ iD f g n ∧ iD f g n ≤ B * C := by
  have h3 : iD f g n * iD f g n ≤ (B * C) * (B * C) := by
    have := cs f g n
    have h4 : iN f n * iN g n ≤ (B * B) * (C * C) := Int.mul_le_mul h.2 h2.2 iN_nn (sq_nn B)
    grind
  have h5 := Int.mul_nonneg h.1 h2.1
  have h6 := sq_le h5 h3
  have h7 : -iD f g n ≤ B * C := sq_le h5 (by grind)
  omega
theorem bN.add {f g : Nat → Int} {n : Nat} {B C : Int} (h : bN f n B) (h2 : bN g n C) : bN (fun k => f k + g k) n (B + C) := by
  refine ⟨Int.add_nonneg h.1 h2.1, ?_⟩
  have e := iN_comb 1 1 f g n
  have e2 : iN (fun k => 1 * f k + 1 * g k) n = iN (fun k => f k + g k) n := iS_congr (fun k _ => by grind)
  have h3 := (h.dot h2).2
  have h4 := h.2
  have h5 := h2.2
  grind
theorem bN.mul {f : Nat → Int} {n : Nat} {B : Int} (h : bN f n B) {c C : Int} (h1 : -C ≤ c) (h2 : c ≤ C) : bN (fun k => c * f k) n (C * B) := by
  have h0 : 0 ≤ C := by omega
  refine ⟨Int.mul_nonneg h0 h.1, ?_⟩
  have e : iN (fun k => c * f k) n = c * c * iN f n := by
    rw [← iS_mul]
    exact iS_congr (fun k _ => by grind)
  have h3 : c * c * iN f n ≤ (C * C) * (B * B) := Int.mul_le_mul (sq_bnd h1 h2) h.2 iN_nn (sq_nn C)
  grind
theorem bN.neg {f : Nat → Int} {n : Nat} {B : Int} (h : bN f n B) : bN (fun k => -f k) n B := ⟨h.1, by rw [show iN (fun k => -f k) n = iN f n from iS_congr (fun k _ => by grind)]; exact h.2⟩
theorem bN.sub {f g : Nat → Int} {n : Nat} {B C : Int} (h : bN f n B) (h2 : bN g n C) : bN (fun k => f k - g k) n (B + C) := (h.add h2.neg).congr (fun k _ => Int.sub_eq_add_neg)
theorem bN.div {f : Nat → Int} {n : Nat} {B c : Int} (hc : 0 < c) (hB : 0 ≤ B) (h : bN (fun k => c * f k) n (c * B)) : bN f n B := by
  refine ⟨hB, ?_⟩
  have e : iN (fun k => c * f k) n = c * c * iN f n := by
    rw [← iS_mul]
    exact iS_congr (fun k _ => by grind)
  have h2 := h.2
  have h3 : (c * c) * iN f n ≤ (c * c) * (B * B) := by grind
  exact Int.le_of_mul_le_mul_left h3 (Int.mul_pos hc hc)
theorem bN.at {f : Nat → Int} {n : Nat} {B : Int} (h : bN f n B) {k : Nat} (hk : k < n) : -B ≤ f k ∧ f k ≤ B := by
  have h2 : f k * f k ≤ iN f n := by
    clear h
    induction n with
    | zero => omega
    | succ n ih =>
      have e : iN f (n + 1) = iN f n + f n * f n := rfl
      have h3 := sq_nn (f n)
      have h4 : 0 ≤ iN f n := iN_nn
      by_cases hkn : k = n
      · rw [hkn]; omega
      · have := ih (by omega); omega
  have h3 := Int.le_trans h2 h.2
  have h6 := sq_le h.1 h3
  have h7 : -f k ≤ B := sq_le h.1 (by grind)
  omega
/-- six numbers of at most M -/
theorem bN_six {f : Nat → Int} {n : Nat} {M : Int} (hn : n ≤ 6) (hM : 0 ≤ M) (h : ∀ k, k < n → -M ≤ f k ∧ f k ≤ M) : iN f n ≤ 6 * (M * M) := by
  have h1 : iN f n ≤ iS (fun _ => M * M) n := iS_le (fun k hk => sq_bnd (h k hk).1 (h k hk).2)
  rw [iS_c] at h1
  have h2 : (n : Int) * (M * M) ≤ 6 * (M * M) := Int.mul_le_mul_of_nonneg_right (by omega) (sq_nn M)
  omega
/-- a vector taken off that is near to unit: the length grows by rounding alone -/
theorem rm_len {u v w : Nat → Int} {n : Nat} {a B : Int} (hn : n ≤ 6) (hu : bN u n B) (hv : bN v n 1001003) (ha : a = iD u v n / 1000000) (hw : ∀ k, k < n → w k = u k - a * v k / 1000000) : bN w n (B + 4) := by
  obtain ⟨s, hs⟩ : ∃ s, s = iD u v n := ⟨_, rfl⟩
  rw [← hs] at ha
  have h1 : bN (fun k => 1000000000000 * u k + -s * v k) n (1000000000000 * B) := by
    refine ⟨Int.mul_nonneg (by decide) hu.1, ?_⟩
    rw [iN_comb, ← hs]
    have h2 := hu.2
    have h3 : 0 ≤ (s * s) * (2000000000000 - iN v n) := Int.mul_nonneg (sq_nn s) (by have := hv.2; omega)
    grind
  have h2 : bN (fun k => (s - 1000000 * a) * v k) n (1000000 * 1001003) := hv.mul (by omega) (by omega)
  have h3 : bN (fun k => a * v k % 1000000) n 2450000 := ⟨by decide, Int.le_trans (bN_six (M := 1000000) hn (by decide) (fun k _ => by omega)) (by decide)⟩
  have h4 : bN (fun k => 1000000 * (a * v k % 1000000)) n (1000000 * 2450000) := h3.mul (by decide) (by decide)
  refine bN.div (c := 1000000000000) (by decide) (by have := hu.1; omega) ?_
  refine ((h1.add (h2.add h4)).congr (fun k hk => ?_)).mono (by omega)
  rw [hw k hk]
  have e := Int.emod_add_mul_ediv (a * v k) 1000000
  grind
/-- a vector brought to unit length -/
theorem un_len {u v : Nat → Int} {n : Nat} {r c : Int} (hn : n ≤ 6) (hr : 1 ≤ r) (h1 : r * r ≤ iN u n) (h2 : iN u n < (r + 1) * (r + 1)) (hv : ∀ k, k < n → v k = u k * 1000000 / r) (hc0 : 0 ≤ c) (hc : 1000000 ≤ c * r) : bN v n (1000003 + c) ∧ 999996 * 999996 < iN v n := by
  have h3 : bN (fun k => u k * 1000000 % r) n (3 * r) := by
    refine ⟨by omega, Int.le_trans (bN_six (M := r) hn (by omega) (fun k _ => ?_)) (by have := sq_nn r; grind)⟩
    have := Int.emod_nonneg (u k * 1000000) (show r ≠ 0 by omega)
    have := Int.emod_lt_of_pos (u k * 1000000) (show 0 < r by omega)
    omega
  have hu : bN u n (r + 1) := ⟨by omega, by omega⟩
  have e : ∀ k, k < n → r * v k = 1000000 * u k - u k * 1000000 % r := fun k hk => by
    rw [hv k hk]
    have := Int.emod_add_mul_ediv (u k * 1000000) r
    omega
  constructor
  · refine bN.div (c := r) (by omega) (by omega) ?_
    refine (((hu.mul (c := 1000000) (C := 1000000) (by decide) (by decide)).sub h3).congr e).mono ?_
    grind
  · refine Int.not_le.mp (fun hle => ?_)
    have h4 : bN v n 999996 := ⟨by decide, hle⟩
    have h5 := ((h4.mul (c := r) (C := r) (by omega) (by omega)).add h3).congr (g := fun k => 1000000 * u k) (fun k hk => by rw [e k hk]; omega)
    have h6 := h5.2
    have e6 : iN (fun k => 1000000 * u k) n = 1000000 * 1000000 * iN u n := by
      rw [← iS_mul]
      exact iS_congr (fun k _ => by grind)
    rw [e6] at h6
    have h7 : 0 < r * r := Int.mul_pos (by omega) (by omega)
    grind
/-! the matrix: A r c, of at most 99, the same from both sides -/
def aMul (A : Nat → Nat → Int) (n : Nat) (v : Nat → Int) (r : Nat) : Int := iS (fun c => A r c * v c) n
def aOK (A : Nat → Nat → Int) (n : Nat) : Prop := (∀ r c, r < n → c < n → -99 ≤ A r c ∧ A r c ≤ 99) ∧ ∀ r c, r < n → c < n → A r c = A c r
theorem aRow {A : Nat → Nat → Int} {n r : Nat} (hn : n ≤ 6) (h : aOK A n) (hr : r < n) : iN (A r) n ≤ 58806 := bN_six (M := 99) hn (by decide) (fun k hk => h.1 r k hr hk)
theorem aMul_len {A : Nat → Nat → Int} {n : Nat} (hn : n ≤ 6) (h : aOK A n) (v : Nat → Int) : iN (aMul A n v) n ≤ 352836 * iN v n := by
  have h0 : 0 ≤ iN v n := iN_nn
  have h1 : ∀ r, r < n → aMul A n v r * aMul A n v r ≤ 58806 * iN v n := fun r hr => Int.le_trans (cs (A r) v n) (Int.mul_le_mul_of_nonneg_right (aRow hn h hr) h0)
  have h2 : iN (aMul A n v) n ≤ iS (fun _ => 58806 * iN v n) n := iS_le h1
  rw [iS_c] at h2
  have h3 : (n : Int) * (58806 * iN v n) ≤ 6 * (58806 * iN v n) := Int.mul_le_mul_of_nonneg_right (by omega) (by omega)
  omega
theorem bN_aMul {A : Nat → Nat → Int} {n : Nat} (hn : n ≤ 6) (h : aOK A n) {v : Nat → Int} {B : Int} (hv : bN v n B) : bN (aMul A n v) n (594 * B) := by
  refine ⟨by have := hv.1; omega, Int.le_trans (aMul_len hn h v) ?_⟩
  have := hv.2
  grind
/-- of a matrix alike from both sides: what two vectors make of it -/
theorem frob {A : Nat → Nat → Int} {n : Nat} (hn : n ≤ 6) (h : aOK A n) (q y : Nat → Int) : 2 * (iD y (aMul A n q) n * iD y (aMul A n q) n) ≤ 352836 * (iN q n * iN y n + iD q y n * iD q y n) := by
  have e1 : iD y (aMul A n q) n = iS (fun r => iS (fun c => A r c * (y r * q c)) n) n := iS_congr (fun r _ => by
    rw [aMul, ← iS_mul]
    exact iS_congr (fun c _ => by grind))
  have e2 : iD y (aMul A n q) n = iS (fun r => iS (fun c => A r c * (q r * y c)) n) n := by
    rw [e1, iS_swap]
    refine iS_congr (fun c hc => iS_congr (fun r hr => ?_))
    rw [h.2 r c hr hc]
    grind
  have e3 : iS (fun r => iS (fun c => A r c * (y r * q c + q r * y c)) n) n = 2 * iD y (aMul A n q) n := by
    have e4 : iS (fun r => iS (fun c => A r c * (y r * q c + q r * y c)) n) n = iS (fun r => iS (fun c => A r c * (y r * q c)) n + iS (fun c => A r c * (q r * y c)) n) n := iS_congr (fun r _ => by
      rw [← iS_add]
      exact iS_congr (fun c _ => Int.mul_add _ _ _))
    rw [e4, iS_add, ← e1, ← e2]
    omega
  have h5 := gcs (s := fun r => iS (fun c => A r c * (y r * q c + q r * y c)) n) (A := fun r => iN (A r) n) (Z := fun r => iN (fun c => y r * q c + q r * y c) n) (n := n) (fun r _ => iN_nn) (fun r _ => iN_nn) (fun r _ => cs (A r) (fun c => y r * q c + q r * y c) n)
  rw [e3] at h5
  have e6 : iS (fun r => iN (fun c => y r * q c + q r * y c) n) n = 2 * (iN q n * iN y n + iD q y n * iD q y n) := by
    have e7 : iS (fun r => iN (fun c => y r * q c + q r * y c) n) n = iS (fun r => iN q n * (y r * y r) + ((2 * iD q y n) * (q r * y r) + iN y n * (q r * q r))) n := iS_congr (fun r _ => by
      rw [iN_comb]
      grind)
    rw [e7, iS_add, iS_add, iS_mul, iS_mul, iS_mul]
    have e8 : iS (fun k => q k * y k) n = iD q y n := rfl
    have e9 : iS (fun k => y k * y k) n = iN y n := rfl
    have e10 : iS (fun k => q k * q k) n = iN q n := rfl
    rw [e8, e9, e10]
    grind
  rw [e6] at h5
  have h7 : iS (fun r => iN (A r) n) n ≤ 352836 := by
    have h8 : iS (fun r => iN (A r) n) n ≤ iS (fun _ => 58806) n := iS_le (fun r hr => aRow hn h hr)
    rw [iS_c] at h8
    omega
  have h9 : 0 ≤ iN q n * iN y n + iD q y n * iD q y n := Int.add_nonneg (Int.mul_nonneg iN_nn iN_nn) (sq_nn _)
  have h10 := Int.mul_le_mul_of_nonneg_right h7 (show 0 ≤ 2 * (iN q n * iN y n + iD q y n * iD q y n) by omega)
  grind
/-- how long a vector is of which a near unit vector's part is taken off, a million million times -/
theorem pj0 {u v : Nat → Int} {n : Nat} {B : Int} (hu : bN u n B) (hv : bN v n 1001003) : bN (fun k => 1000000000000 * u k + -(iD u v n) * v k) n (1000000000000 * B) := by
  refine ⟨Int.mul_nonneg (by decide) hu.1, ?_⟩
  rw [iN_comb]
  generalize iD u v n = s
  have h2 := hu.2
  have h3 : 0 ≤ (s * s) * (2000000000000 - iN v n) := Int.mul_nonneg (sq_nn s) (by have := hv.2; omega)
  grind
theorem pj_er {v : Nat → Int} {n : Nat} {s a : Int} (hn : n ≤ 6) (hv : bN v n 1001003) (ha : a = s / 1000000) : bN (fun k => (s - 1000000 * a) * v k + 1000000 * (a * v k % 1000000)) n 4000000000000 := by
  have h2 : bN (fun k => (s - 1000000 * a) * v k) n (1000000 * 1001003) := hv.mul (by omega) (by omega)
  have h3 : bN (fun k => a * v k % 1000000) n 2450000 := ⟨by decide, Int.le_trans (bN_six (M := 1000000) hn (by decide) (fun k _ => by omega)) (by decide)⟩
  have h4 : bN (fun k => 1000000 * (a * v k % 1000000)) n (1000000 * 2450000) := h3.mul (by decide) (by decide)
  exact (h2.add h4).mono (by decide)
theorem pj_w {u v w : Nat → Int} {n : Nat} {a : Int} (hw : ∀ k, k < n → w k = u k - a * v k / 1000000) : ∀ k, k < n → 1000000000000 * w k = (1000000000000 * u k + -(iD u v n) * v k) + ((iD u v n - 1000000 * a) * v k + 1000000 * (a * v k % 1000000)) := fun k hk => by
  rw [hw k hk]
  have e := Int.emod_add_mul_ediv (a * v k) 1000000
  grind
theorem mul_bnd {x z X d : Int} (h0 : 0 ≤ x) (hx : x ≤ X) (h1 : -d ≤ z) (h2 : z ≤ d) : -(X * d) ≤ x * z ∧ x * z ≤ X * d := by
  have h3 : x * z ≤ x * d := Int.mul_le_mul_of_nonneg_left h2 h0
  have h4 : x * d ≤ X * d := Int.mul_le_mul_of_nonneg_right hx (by omega)
  have h5 : x * -d ≤ x * z := Int.mul_le_mul_of_nonneg_left h1 h0
  have h6 : x * -d = -(x * d) := Int.mul_neg _ _
  omega
theorem pj_num {Y D Na c Q : Int} (eY : Y = 1000000000000 * 1000000000000 * Na + 2 * (1000000000000 * -c) * c + -c * -c * Q) (eD : D = 1000000000000 * Na + -c * c) (h1 : 2 * (D * D) ≤ 352836 * (Q * Y + (1000000000000 * c + -c * Q) * (1000000000000 * c + -c * Q))) (h2 : c * c ≤ 352836 * Q * Q) (h3 : Q ≤ 1001003 * 1001003) (hq2 : 999996 * 999996 < Q) (hlt : 422300000 * 1000000000000 * (422300000 * 1000000000000) < Y) : False := by
  have e4 : Y = 1000000000000 * D + c * c * (Q - 1000000000000) := by grind
  have h5 : Q * Q ≤ 1002007006009 * 1002007006009 := Int.mul_le_mul (by omega) (by omega) (by omega) (by omega)
  have hX : c * c ≤ 354253709193590473517566867716 := by
    have h6 : 352836 * Q * Q = 352836 * (Q * Q) := by grind
    omega
  have h0 : 0 ≤ c * c := sq_nn c
  have hP := mul_bnd (x := c * c) (z := Q - 1000000000000) (X := 354253709193590473517566867716) (d := 2007006009) h0 hX (by omega) (by omega)
  have hE : (1000000000000 * c + -c * Q) * (1000000000000 * c + -c * Q) ≤ 354253709193590473517566867716 * (2007006009 * 2007006009) := by
    have h7 : (1000000000000 * c + -c * Q) * (1000000000000 * c + -c * Q) = c * c * ((Q - 1000000000000) * (Q - 1000000000000)) := by grind
    rw [h7]
    exact Int.mul_le_mul hX (sq_bnd (by omega) (by omega)) (sq_nn _) (by decide)
  have hY : Q * Y ≤ 1002007006009 * Y := Int.mul_le_mul_of_nonneg_right (by omega) (by omega)
  have hZ : (177626300676937925375365087929434679894556) * (Y - 710989323062074624634912070565320105444) ≤ (1000000000000 * D) * (1000000000000 * D) := Int.mul_le_mul (by omega) (by omega) (by omega) (by omega)
  have hZ2 : (1000000000000 * D) * (1000000000000 * D) = 1000000000000000000000000 * (D * D) := by grind
  generalize (1000000000000 * c + -c * Q) * (1000000000000 * c + -c * Q) = E at *
  generalize c * c * (Q - 1000000000000) = P at *
  generalize (1000000000000 * D) * (1000000000000 * D) = ZZ at *
  generalize D * D = DD at *
  generalize Q * Y = QY at *
  omega
/-- what a near unit vector is made of by the matrix, its own part taken off -/
theorem pj_A {A : Nat → Nat → Int} {q : Nat → Int} {n : Nat} (hn : n ≤ 6) (h : aOK A n) (hq : bN q n 1001003) (hq2 : 999996 * 999996 < iN q n) : bN (fun k => 1000000000000 * aMul A n q k + -(iD (aMul A n q) q n) * q k) n (422300000 * 1000000000000) := by
  refine ⟨by decide, ?_⟩
  obtain ⟨a, ha⟩ : ∃ a, a = aMul A n q := ⟨_, rfl⟩
  obtain ⟨y, hy⟩ : ∃ y : Nat → Int, y = fun k => 1000000000000 * a k + -(iD a q n) * q k := ⟨_, rfl⟩
  rw [← ha]
  have eY : iN y n = 1000000000000 * 1000000000000 * iN a n + 2 * (1000000000000 * -(iD a q n)) * iD a q n + -(iD a q n) * -(iD a q n) * iN q n := by rw [hy, iN_comb]
  have eD : iD a y n = 1000000000000 * iN a n + -(iD a q n) * iD a q n := by rw [hy, iD_comb]
  have eq : iD q y n = 1000000000000 * iD q a n + -(iD a q n) * iN q n := by rw [hy, iD_comb]
  have h1 := frob hn h q y
  rw [← ha, iD_comm y a, eq, iD_comm q a] at h1
  have h2 : iD a q n * iD a q n ≤ 352836 * iN q n * iN q n := Int.le_trans (cs a q n) (Int.mul_le_mul_of_nonneg_right (by rw [ha]; exact aMul_len hn h q) iN_nn)
  refine Int.not_lt.mp (fun hlt => pj_num eY eD h1 h2 hq.2 hq2 ?_)
  rw [← hy] at hlt
  exact hlt
/-- one step: what is left of A q less p when the part of q is taken off -/
theorem st_len {A : Nat → Nat → Int} {q p u w : Nat → Int} {n : Nat} {a B : Int} (hn : n ≤ 6) (h : aOK A n) (hq : bN q n 1001003) (hq2 : 999996 * 999996 < iN q n) (hp : bN p n B) (hu : ∀ k, k < n → u k = aMul A n q k - p k) (ha : a = iD u q n / 1000000) (hw : ∀ k, k < n → w k = u k - a * q k / 1000000) : bN w n (422300004 + B) := by
  have e1 : iD u q n = iD (aMul A n q) q n - iD p q n := by
    have e2 : iD u q n = iD q (fun k => 1 * aMul A n q k + -1 * p k) n := iS_congr (fun k hk => by rw [hu k hk]; grind)
    rw [e2, iD_comb, iD_comm q, iD_comm q]
    omega
  have h1 := ((pj_A hn h hq hq2).sub (pj0 hp hq)).congr (g := fun k => 1000000000000 * u k + -(iD u q n) * q k) (fun k hk => by rw [hu k hk, e1]; grind)
  refine bN.div (c := 1000000000000) (by decide) (by have := hp.1; omega) ?_
  exact ((h1.add (pj_er hn hq ha)).congr (pj_w hw)).mono (by omega)
/-- a multiple of a vector, rounded -/
theorem dv_len {v p : Nat → Int} {n : Nat} {b B C D : Int} (hn : n ≤ 6) (hv : bN v n B) (h1 : -C ≤ b) (h2 : b ≤ C) (hp : ∀ k, k < n → p k = b * v k / 1000000) (hD : 0 ≤ D) (h3 : C * B + 2450000 ≤ 1000000 * D) : bN p n D := by
  have h4 : bN (fun k => b * v k % 1000000) n 2450000 := ⟨by decide, Int.le_trans (bN_six (M := 1000000) hn (by decide) (fun k _ => by omega)) (by decide)⟩
  refine bN.div (c := 1000000) (by decide) hD ?_
  refine (((hv.mul h1 h2).sub h4).congr (fun k hk => ?_)).mono h3
  rw [hp k hk]
  have := Int.emod_add_mul_ediv (b * v k) 1000000
  omega
end
section
/-! NUMBERS 2: numbers of 64 bits that do not run over -/
abbrev tI (f : Nat → Int64) : Nat → Int := fun k => (f k).toInt
theorem ediv_u {a b q : Int} (hb : 0 < b) (h1 : b * q ≤ a) (h2 : a < b * q + b) : a / b = q := ((Int.ediv_emod_unique (r := a - b * q) hb).mpr ⟨by omega, by omega, by omega⟩).1
theorem fD_I {a b : Int64} (hb : 0 < b.toInt) (ha : -9223372036854775808 < a.toInt) : (fD a b).toInt = a.toInt / b.toInt := by
  have hal := a.toInt_lt
  by_cases h0 : 0 ≤ a.toInt
  · have e1 := i_div h0 hb
    rw [fD]
    split
    · exact e1
    · rw [if_pos ⟨fun _ => Int64.le_iff_toInt_le.mpr (by rw [i_0]; omega), fun _ => Int64.le_iff_toInt_le.mpr (by rw [i_0]; omega)⟩]
      exact e1
  · obtain ⟨N, hN⟩ : ∃ N, N = -a.toInt := ⟨_, rfl⟩
    obtain ⟨K, hK⟩ : ∃ K, K = N / b.toInt := ⟨_, rfl⟩
    have hK0 : 0 ≤ K := by rw [hK]; exact Int.ediv_nonneg (by omega) (by omega)
    have hK1 : K ≤ N := by rw [hK]; exact Int.ediv_le_self _ (by omega)
    have hR := Int.emod_add_mul_ediv N b.toInt
    have hR0 := Int.emod_nonneg N (show b.toInt ≠ 0 by omega)
    have hR1 := Int.emod_lt_of_pos N hb
    have e1 : (a / b).toInt = -K := by
      rw [Int64.toInt_div, show a.toInt = -N by omega, Int.neg_tdiv, Int.tdiv_eq_ediv_of_nonneg (by omega), ← hK, Int.bmod_eq_of_le] <;> omega
    rw [← hK] at hR
    obtain ⟨P, hP⟩ : ∃ P, P = b.toInt * K := ⟨_, rfl⟩
    have hP0 : 0 ≤ P := by rw [hP]; exact Int.mul_nonneg (by omega) hK0
    rw [← hP] at hR
    have e3 : (a / b).toInt * b.toInt = -P := by rw [e1, hP, Int.neg_mul, Int.mul_comm]
    have e2 : (a / b * b).toInt = -P := by rw [i_mul (by rw [e3]; omega) (by rw [e3]; omega), e3]
    by_cases hz : N % b.toInt = 0
    · rw [fD, if_pos (Int64.toInt_inj.mp (by rw [e2]; omega)), e1]
      exact (ediv_u hb (by rw [Int.mul_neg, ← hP]; omega) (by rw [Int.mul_neg, ← hP]; omega)).symm
    · rw [fD, if_neg (fun z => hz (by have := congrArg Int64.toInt z; rw [e2] at this; omega)), if_neg (fun z => h0 (by
        have h9 := Int64.le_iff_toInt_le.mp (z.mpr (Int64.le_iff_toInt_le.mpr (by rw [i_0]; omega)))
        rw [i_0] at h9
        exact h9)), i_sub (by rw [e1, i_1]; omega) (by rw [e1, i_1]; omega), e1, i_1]
      have e4 : b.toInt * (-K - 1) = -P - b.toInt := by rw [Int.mul_sub, Int.mul_neg, ← hP, Int.mul_one]
      exact (ediv_u hb (by rw [e4]; omega) (by rw [e4]; omega)).symm
theorem prod_bnd {x y B C : Int} (h1 : -B ≤ x) (h2 : x ≤ B) (h3 : -C ≤ y) (h4 : y ≤ C) : -(B * C) ≤ x * y ∧ x * y ≤ B * C := by
  have hB : 0 ≤ B := by omega
  have hC : 0 ≤ C := by omega
  have h5 : (x * x) * (y * y) ≤ (B * B) * (C * C) := Int.mul_le_mul (sq_bnd h1 h2) (sq_bnd h3 h4) (sq_nn y) (sq_nn B)
  have h6 : x * y ≤ B * C := sq_le (Int.mul_nonneg hB hC) (by grind)
  have h7 : -(x * y) ≤ B * C := sq_le (Int.mul_nonneg hB hC) (by grind)
  omega
theorem sS_I {f : Nat → Int64} {g : Nat → Int} {M : Int} (hM : 0 ≤ M) (hM2 : M ≤ 1500000000000000000) : ∀ {n : Nat}, n ≤ 6 → (∀ k, k < n → (f k).toInt = g k ∧ -M ≤ g k ∧ g k ≤ M) → (sSum f n).toInt = iS g n ∧ -(n * M) ≤ iS g n ∧ iS g n ≤ n * M := by
  intro n
  induction n with
  | zero => exact fun _ _ => ⟨rfl, by rw [iS]; omega, by rw [iS]; omega⟩
  | succ n ih =>
    intro hn h
    obtain ⟨h1, h2, h3⟩ := ih (by omega) (fun k hk => h k (by omega))
    obtain ⟨h4, h5, h6⟩ := h n (by omega)
    have h7 : ((n + 1 : Nat) : Int) * M = n * M + M := by rw [Int.natCast_add, Int.add_mul]; omega
    have h8 : (n : Int) * M ≤ 5 * M := Int.mul_le_mul_of_nonneg_right (by omega) hM
    rw [sSum, iS, h7, i_add (by rw [h1, h4]; omega) (by rw [h1, h4]; omega), h1, h4]
    exact ⟨rfl, by omega, by omega⟩
theorem sDot_I {u v : Nat → Int64} {n : Nat} {B C : Int} (hn : n ≤ 6) (hu : bN (tI u) n B) (hv : bN (tI v) n C) (h : B * C ≤ 1500000000000000000) : (sDot n u v).toInt = iD (tI u) (tI v) n / 1000000 := by
  have h1 := sS_I (f := fun k => u k * v k) (g := fun k => tI u k * tI v k) (M := B * C) (Int.mul_nonneg hu.1 hv.1) h hn (fun k hk => by
    have h2 : -(B * C) ≤ (u k).toInt * (v k).toInt ∧ (u k).toInt * (v k).toInt ≤ B * C := prod_bnd (hu.at hk).1 (hu.at hk).2 (hv.at hk).1 (hv.at hk).2
    exact ⟨i_mul (by omega) (by omega), h2⟩)
  have h3 : (n : Int) * (B * C) ≤ 6 * (B * C) := Int.mul_le_mul_of_nonneg_right (by omega) (Int.mul_nonneg hu.1 hv.1)
  rw [sDot, fD_I (by decide) (by rw [h1.1]; omega), h1.1]
  rfl
theorem sN_I {u : Nat → Int64} : ∀ {n : Nat}, iN (tI u) n ≤ 9000000000000000000 → (sSum (fun k => u k * u k) n).toInt = iN (tI u) n := by
  intro n
  induction n with
  | zero => exact fun _ => rfl
  | succ n ih =>
    intro h
    have e : iN (tI u) (n + 1) = iN (tI u) n + (u n).toInt * (u n).toInt := rfl
    have h1 := sq_nn (u n).toInt
    have h2 : 0 ≤ iN (tI u) n := iN_nn
    have e3 := ih (by omega)
    have e4 : (u n * u n).toInt = (u n).toInt * (u n).toInt := i_mul (by omega) (by omega)
    rw [sSum, i_add (by rw [e3, e4]; omega) (by rw [e3, e4]; omega), e3, e4, e]
/-- short enough for both roots -/
def nOK (u : Nat → Int64) (n : Nat) : Prop := iN (tI u) n ≤ 9000000000000000000
theorem nOK.of {u : Nat → Int64} {n : Nat} {B : Int} (h : bN (tI u) n B) (hB : B ≤ 3000000000) : nOK u n := Int.le_trans h.2 (Int.le_trans (sq_mono h.1 hB) (by decide))
theorem nrm_same {u : Nat → Int64} {n : Nat} (h : nOK u n) : sNorm rootC n u = sNorm rootM n u := by
  have e := sN_I h
  have h2 : 0 ≤ iN (tI u) n := iN_nn
  rw [sNorm, sNorm, root_same (by rw [e]; exact h2) (by rw [e]; exact h)]
theorem nrm_I {u : Nat → Int64} {n : Nat} (h : nOK u n) : 0 ≤ (sNorm rootM n u).toInt ∧ (sNorm rootM n u).toInt ≤ 3000000000 ∧ (sNorm rootM n u).toInt * (sNorm rootM n u).toInt ≤ iN (tI u) n ∧ iN (tI u) n < ((sNorm rootM n u).toInt + 1) * ((sNorm rootM n u).toInt + 1) := by
  have e := sN_I h
  have h2 : 0 ≤ iN (tI u) n := iN_nn
  have h3 := rootM_spec (x := sSum (fun k => u k * u k) n) (by rw [e]; exact h2) (by rw [e]; exact h)
  rw [e] at h3
  exact h3
theorem nrm_le {u : Nat → Int64} {n : Nat} {B : Int} (h : nOK u n) (h2 : bN (tI u) n B) : (sNorm rootM n u).toInt ≤ B := sq_le h2.1 (Int.le_trans (nrm_I h).2.2.1 h2.2)
theorem bN.atI {u : Nat → Int64} {n : Nat} {B : Int} (h : bN (tI u) n B) {k : Nat} (hk : k < n) : -B ≤ (u k).toInt ∧ (u k).toInt ≤ B := h.at hk
theorem vTake_I {m : Int64} {u v : Nat → Int64} {n : Nat} {B C D : Int} (hu : bN (tI u) n B) (hv : bN (tI v) n C) (h1 : -D ≤ m.toInt) (h2 : m.toInt ≤ D) (hB : B ≤ 4000000000000000000) (hD : D * C ≤ 4000000000000000000) : ∀ k, k < n → tI (vTake m u v) k = tI u k - m.toInt * tI v k / 1000000 := fun k hk => by
  have h3 := prod_bnd h1 h2 (hv.atI hk).1 (hv.atI hk).2
  have h4 := hu.atI hk
  have e1 : (m * v k).toInt = m.toInt * (v k).toInt := i_mul (by omega) (by omega)
  have e2 : (fD (m * v k) 1000000).toInt = m.toInt * (v k).toInt / 1000000 := by rw [fD_I (by decide) (by rw [e1]; omega), e1]; rfl
  show (u k - fD (m * v k) 1000000).toInt = (u k).toInt - m.toInt * (v k).toInt / 1000000
  rw [i_sub (by rw [e2]; omega) (by rw [e2]; omega), e2]
/-- near unit length -/
def uOK (v : Nat → Int64) (n : Nat) : Prop := bN (tI v) n 1001003 ∧ 999996 * 999996 < iN (tI v) n
theorem vUnit_I {u : Nat → Int64} {n : Nat} (h : nOK u n) (h0 : 0 < (sNorm rootM n u).toInt) : ∀ k, k < n → tI (vUnit rootM n u) k = tI u k * 1000000 / (sNorm rootM n u).toInt := fun k hk => by
  have hb : bN (tI u) n 3000000000 := ⟨by decide, h⟩
  have h1 := hb.atI hk
  have e1 : (u k * 1000000).toInt = (u k).toInt * 1000000 := i_mul (by show _ ≤ (u k).toInt * 1000000; omega) (by show (u k).toInt * 1000000 < _; omega)
  show (if 0 < sNorm rootM n u then fD (u k * 1000000) (sNorm rootM n u) else u k).toInt = _
  rw [if_pos (Int64.lt_iff_toInt_lt.mpr (by rw [i_0]; exact h0)), fD_I h0 (by rw [e1]; omega), e1]
theorem vUnit_same {u : Nat → Int64} {n : Nat} (h : nOK u n) : vUnit rootC n u = vUnit rootM n u := by
  funext k
  rw [vUnit, vUnit, nrm_same h]
theorem vUnit_ok {u : Nat → Int64} {n : Nat} (hn : n ≤ 6) (h : nOK u n) (h0 : ¬ sNorm rootM n u < 1000) : uOK (vUnit rootM n u) n := by
  have h1 := Int64.le_iff_toInt_le.mp (Int64.not_lt.mp h0)
  have h2 : (1000 : Int64).toInt = 1000 := rfl
  rw [h2] at h1
  obtain ⟨g1, g2, g3, g4⟩ := nrm_I h
  exact un_len hn (by omega) g3 g4 (vUnit_I h (by omega)) (c := 1000) (by decide) (by omega)
theorem vUnit_len {u : Nat → Int64} {n : Nat} (hn : n ≤ 6) (h : nOK u n) : bN (tI (vUnit rootM n u)) n 2000003 := by
  obtain ⟨g1, g2, g3, g4⟩ := nrm_I h
  by_cases h0 : 0 < (sNorm rootM n u).toInt
  · exact (un_len hn (by omega) g3 g4 (vUnit_I h h0) (c := 1000000) (by decide) (by omega)).1
  · rw [vUnit_0 (fun z => h0 (by have := Int64.lt_iff_toInt_lt.mp z; rw [i_0] at this; exact this))]
    have h5 : (sNorm rootM n u).toInt = 0 := by omega
    rw [h5] at g4
    exact ⟨by decide, by omega⟩
theorem vRemove_I {u v : Nat → Int64} {n : Nat} {B : Int} (hn : n ≤ 6) (hu : bN (tI u) n B) (hv : bN (tI v) n 1001003) (hB : B ≤ 1000000000000) : (∀ k, k < n → tI (vRemove n u v) k = tI u k - (sDot n u v).toInt * tI v k / 1000000) ∧ (sDot n u v).toInt = iD (tI u) (tI v) n / 1000000 := by
  have e := sDot_I hn hu hv (by omega)
  have h1 := hu.dot hv
  exact ⟨vTake_I hu hv (D := 1001003000000) (by rw [e]; omega) (by rw [e]; omega) (by omega) (by decide), e⟩
theorem vRemove_len {u v : Nat → Int64} {n : Nat} {B : Int} (hn : n ≤ 6) (hu : bN (tI u) n B) (hv : bN (tI v) n 1001003) (hB : B ≤ 1000000000000) : bN (tI (vRemove n u v)) n (B + 4) := by
  obtain ⟨h1, h2⟩ := vRemove_I hn hu hv hB
  exact rm_len hn hu hv h2 h1
end
section
/-! NUMBERS 3: vectors made by the matrix; what is taken off, vector by vector -/
def aF (f : Nat → Int64) (r c : Nat) : Int := (f (18 + 6 * r + c)).toInt
theorem vMul_I {n : Nat} {f v : Nat → Int64} {B : Int} (hn : n ≤ 6) (h : aOK (aF f) n) (hv : bN (tI v) n B) (hB : B ≤ 10000000000000000) : ∀ r, r < n → tI (vMul n f v) r = aMul (aF f) n (tI v) r := fun r hr =>
  show (sSum (fun c => f (18 + 6 * r + c) * v c) n).toInt = iS (fun c => aF f r c * tI v c) n from
  (sS_I (f := fun c => f (18 + 6 * r + c) * v c) (g := fun c => aF f r c * tI v c) (M := 99 * B) (by have := hv.1; omega) (by omega) hn (fun c hc => by
    have h2 : -(99 * B) ≤ (f (18 + 6 * r + c)).toInt * (v c).toInt ∧ (f (18 + 6 * r + c)).toInt * (v c).toInt ≤ 99 * B := prod_bnd (h.1 r c hr hc).1 (h.1 r c hr hc).2 (hv.atI hc).1 (hv.atI hc).2
    exact ⟨i_mul (by omega) (by omega), h2⟩)).1
theorem vMul_len {n : Nat} {f v : Nat → Int64} {B : Int} (hn : n ≤ 6) (h : aOK (aF f) n) (hv : bN (tI v) n B) (hB : B ≤ 10000000000000000) : bN (tI (vMul n f v)) n (594 * B) := (bN_aMul hn h hv).congr (vMul_I hn h hv hB)
theorem vLocks_len {n : Nat} {f u : Nat → Int64} {B : Int} (hn : n ≤ 6) (hu : bN (tI u) n B) (hB : B ≤ 900000000000) : ∀ k : Nat, k ≤ 6 → (∀ j, j < k → uOK (sAt f (157 + 8 * j + 2)) n) → bN (tI (vLocks n f k u)) n (B + 4 * k) := by
  intro k
  induction k with
  | zero => exact fun _ _ => hu.mono (by omega)
  | succ k ih =>
    intro hk hl
    rw [vLocks]
    exact (vRemove_len hn (ih (by omega) (fun j hj => hl j (by omega))) (hl k (by omega)).1 (by omega)).mono (by omega)
theorem vPurge_len {n : Nat} {f u : Nat → Int64} {B : Int} (hn : n ≤ 6) (hu : bN (tI u) n B) (hB : B ≤ 900000000000) : ∀ k : Nat, k ≤ 6 → (∀ j, j < k → uOK (sAt f (157 + 8 * j + 2)) n) → bN (tI (vPurge n f u k)) n (B + 4 * k) := by
  intro k
  induction k with
  | zero => exact fun _ _ => hu.mono (by omega)
  | succ k ih =>
    intro hk hl
    have h1 := ih (by omega) (fun j hj => hl j (by omega))
    rw [vPurge]
    split
    · exact (vRemove_len hn h1 (hl k (by omega)).1 (by omega)).mono (by omega)
    · exact h1.mono (by omega)
theorem vRep_len {n m : Nat} {f u : Nat → Int64} {B : Int} (hn : n ≤ 6) (hu : bN (tI u) n B) (hB : B ≤ 900000000000) : ∀ k : Nat, k ≤ 7 → (∀ j, j < k → uOK (sAt f (54 + 6 * j)) n) → bN (tI (vRep n f m u k)) n (B + 4 * k) := by
  intro k
  induction k with
  | zero => exact fun _ _ => hu.mono (by omega)
  | succ k ih =>
    intro hk hl
    have h1 := ih (by omega) (fun j hj => hl j (by omega))
    rw [vRep]
    split
    · exact (vRemove_len hn h1 (hl k (by omega)).1 (by omega)).mono (by omega)
    · exact h1.mono (by omega)
/-- a step's vector: the matrix times the last, less the one before, less its own part -/
theorem vSt2_len {n m : Nat} {f : Nat → Int64} {B D : Int} (hn : n ≤ 6) (hm : m ≤ 5) (hA : aOK (aF f) n) (hq : uOK (sAt f (54 + 6 * m)) n) (hp : 0 < m → bN (tI (sAt f (54 + 6 * (m - 1)))) n 1001003 ∧ -B ≤ (f (102 + m - 1)).toInt ∧ (f (102 + m - 1)).toInt ≤ B) (hB : 0 ≤ B) (hB2 : B ≤ 3000000000) (hD : 0 ≤ D) (hBD : B * 1001003 + 2450000 ≤ 1000000 * D) (hD2 : D ≤ 4000000000) : bN (tI (vSt2 n f m)) n (422300004 + D) := by
  have e1 : ∀ j, j ≠ 4 → j ≠ 7 → fSt1 f j = f j := fun j h4 h7 => by rw [fSt1, pk_uLn h7, pk_uLn h4]
  have eA : sAt (fSt1 f) (54 + 6 * m) = sAt f (54 + 6 * m) := funext (fun k => e1 _ (by omega) (by omega))
  have eP : sAt (fSt1 f) (54 + 6 * (m - 1)) = sAt f (54 + 6 * (m - 1)) := funext (fun k => e1 _ (by omega) (by omega))
  have eM : vMul n (fSt1 f) (sAt f (54 + 6 * m)) = vMul n f (sAt f (54 + 6 * m)) := funext (fun r => sSum_congr (fun c _ => by rw [e1 _ (by omega) (by omega)]))
  have hmul := vMul_I hn hA hq.1 (by decide)
  have hml := vMul_len hn hA hq.1 (by decide)
  have hu : ∃ p : Nat → Int, bN p n D ∧ bN (tI (vSt1 n (fSt1 f) m)) n (594 * 1001003 + D) ∧ ∀ k, k < n → tI (vSt1 n (fSt1 f) m) k = aMul (aF f) n (tI (sAt f (54 + 6 * m))) k - p k := by
    rw [vSt1, eA, eP, eM]
    split
    · rename_i h0
      obtain ⟨h1, h2, h3⟩ := hp h0
      have e2 : fSt1 f (102 + m - 1) = f (102 + m - 1) := e1 _ (by omega) (by omega)
      rw [e2]
      have h4 := vTake_I (m := f (102 + m - 1)) hml h1 h2 h3 (by decide) (by omega)
      have h5 : bN (fun k => (f (102 + m - 1)).toInt * tI (sAt f (54 + 6 * (m - 1))) k / 1000000) n D := dv_len hn h1 h2 h3 (fun k _ => rfl) hD hBD
      exact ⟨_, h5, (hml.sub h5).congr h4, fun k hk => by rw [h4 k hk, hmul k hk]⟩
    · refine ⟨fun _ => 0, ⟨hD, ?_⟩, hml.mono (by omega), fun k hk => by rw [hmul k hk]; exact (Int.sub_zero _).symm⟩
      rw [show iN (fun _ => 0) n = 0 from (iS_congr (fun k _ => Int.mul_zero 0)).trans iS_0]
      exact sq_nn D
  obtain ⟨p, hp1, hu1, hu2⟩ := hu
  have hd := sDot_I hn hu1 hq.1 (by omega)
  have hd2 := hu1.dot hq.1
  have hw : ∀ k, k < n → tI (vSt2 n f m) k = tI (vTake (sDot n (vSt1 n (fSt1 f) m) (sAt f (54 + 6 * m))) (vSt1 n (fSt1 f) m) (sAt f (54 + 6 * m))) k := fun k hk => by
    have h9 := vTake_congr (m := sDot n (vSt1 n (fSt1 f) m) (sAt f (54 + 6 * m))) (n := n) (u := vSt1 n (fSt1 f) m) (u' := vSt1 n (fSt1 f) m) (v := sAt (fSt2 n f m) (54 + 6 * m)) (v' := sAt f (54 + 6 * m)) (fun _ _ => rfl) (fun k hk => by
      show fSt2 n f m (54 + 6 * m + k) = f (54 + 6 * m + k)
      rw [fSt2, pk_uLn (by omega), e1 _ (by omega) (by omega)]) k hk
    show (vSt2 n f m k).toInt = _
    rw [vSt2, eA, h9]
  exact st_len hn hA hq.1 hq.2 hp1 hu2 hd (fun k hk => (hw k hk).trans (vTake_I hu1 hq.1 (D := 5000000000) (by rw [hd]; omega) (by rw [hd]; omega) (by omega) (by decide) k hk))
theorem uOK.congr {v v' : Nat → Int64} {n : Nat} (h : uOK v n) (e : ∀ k, k < n → v' k = v k) : uOK v' n := by
  refine ⟨h.1.congr (fun k hk => congrArg Int64.toInt (e k hk)), ?_⟩
  rw [show iN (tI v') n = iN (tI v) n from iS_congr (fun k hk => by show (v' k).toInt * (v' k).toInt = (v k).toInt * (v k).toInt; rw [e k hk])]
  exact h.2
theorem gSt2_at {n m j : Nat} {f : Nat → Int64} (h4 : j ≠ 4) (h7 : j ≠ 7) (h : j ≠ 96 + m) : fSt2 n f m j = f j := by rw [fSt2, pk_uLn h, fSt1, pk_uLn h7, pk_uLn h4]
/-- a row from which a step can be made: what its numbers keep -/
def gOK (n m q : Nat) (f : Nat → Int64) (B : Int) : Prop := aOK (aF f) n ∧ (∀ j, j ≤ m → uOK (sAt f (54 + 6 * j)) n) ∧ (∀ j, j < q → uOK (sAt f (157 + 8 * j + 2)) n) ∧ (0 < m → -B ≤ (f (102 + m - 1)).toInt ∧ (f (102 + m - 1)).toInt ≤ B)
theorem vSt3_len {n m q : Nat} {f : Nat → Int64} {B D : Int} (hn : n ≤ 6) (hm : m ≤ 5) (hq : q ≤ 6) (h : gOK n m q f B) (hB : 0 ≤ B) (hB2 : B ≤ 3000000000) (hD : 0 ≤ D) (hBD : B * 1001003 + 2450000 ≤ 1000000 * D) (hD2 : D ≤ 4000000000) : bN (tI (vSt3 n q f m)) n (422300028 + D) := by
  obtain ⟨hA, hb, hl, hbe⟩ := h
  have h2 := vSt2_len hn hm hA (hb m (Nat.le_refl _)) (fun h0 => ⟨(hb (m - 1) (by omega)).1, hbe h0⟩) hB hB2 hD hBD hD2
  exact (vPurge_len hn h2 (by omega) q hq (fun j hj => (hl j hj).congr (fun k hk => gSt2_at (by omega) (by omega) (by omega)))).mono (by omega)
theorem vSt5_len {R : Int64 → Int64} {n m q : Nat} {f : Nat → Int64} {B D : Int} (hn : n ≤ 6) (hm : m ≤ 5) (hq : q ≤ 6) (h : gOK n m q f B) (hB : 0 ≤ B) (hB2 : B ≤ 3000000000) (hD : 0 ≤ D) (hBD : B * 1001003 + 2450000 ≤ 1000000 * D) (hD2 : D ≤ 4000000000) : bN (tI (vSt5 R n q f m)) n (422300052 + D) := by
  have h3 := vSt3_len hn hm hq h hB hB2 hD hBD hD2
  obtain ⟨hA, hb, hl, hbe⟩ := h
  exact (vRep_len hn h3 (by omega) (m + 1) (by omega) (fun j hj => (hb j (by omega)).congr (fun k hk => by
    show fSt4 R n q f m (54 + 6 * j + k) = f (54 + 6 * j + k)
    rw [fSt4, fEst, pk_uLn (by omega), cpy_out (by omega), fSt3, pk_uLn (by omega), gSt2_at (by omega) (by omega) (by omega)]))).mono (by omega)
/-- a step is the same with either root -/
theorem fStep_same {n m q : Nat} {f : Nat → Int64} {B D : Int} (hn : n ≤ 6) (hm : m ≤ 5) (hq : q ≤ 6) (h : gOK n m q f B) (hB : 0 ≤ B) (hB2 : B ≤ 3000000000) (hD : 0 ≤ D) (hBD : B * 1001003 + 2450000 ≤ 1000000 * D) (hD2 : D ≤ 2500000000) : fStep rootC n q f m = fStep rootM n q f m := by
  have h3 := nOK.of (vSt3_len hn hm hq h hB hB2 hD hBD (by omega)) (by omega)
  have h5 := nOK.of (vSt5_len (R := rootM) hn hm hq h hB hB2 hD hBD (by omega)) (by omega)
  have e3 := nrm_same h3
  have e4 : fSt4 rootC n q f m = fSt4 rootM n q f m := by rw [fSt4, fSt4, e3]
  have e5 : fSt5 rootC n q f m = fSt5 rootM n q f m := by rw [fSt5, fSt5, e4]
  have ev : vSt5 rootC n q f m = vSt5 rootM n q f m := by rw [vSt5, vSt5, e4]
  have en : nSt5 rootC n q f m = nSt5 rootM n q f m := by rw [nSt5, nSt5, e4, e3, ev, nrm_same h5]
  rw [fStep, fStep, e3, en, e5, ev, vUnit_same h5]
end
