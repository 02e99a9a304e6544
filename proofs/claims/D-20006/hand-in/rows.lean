section
/-! ===== chains of links, with no program in sight ===== -/
/-- the links ys, in this order, are the whole chain that begins at h -/
def zq_ch (nx : Nat → Option Nat) : List Nat → Option Nat → Prop
  | [], h => h = none
  | y :: ys, h => h = some y ∧ zq_ch nx ys (nx y)
/-- what stands in front, or -1 -/
def zq_top : List Int32 → Int32
  | [] => -1
  | v :: _ => v
/-- the first n places of f, the last of them in front -/
def zq_rv (f : Nat → Int32) : Nat → List Int32
  | 0 => []
  | n + 1 => f n :: zq_rv f n
theorem zq_nil {nx : Nat → Option Nat} {h : Option Nat} (c : zq_ch nx [] h) : h = none := c
theorem zq_hd {nx : Nat → Option Nat} {y : Nat} {ys : List Nat} {h : Option Nat} (c : zq_ch nx (y :: ys) h) : h = some y := by
  have c' : h = some y ∧ zq_ch nx ys (nx y) := c
  exact c'.1
theorem zq_tl {nx : Nat → Option Nat} {y : Nat} {ys : List Nat} {h : Option Nat} (c : zq_ch nx (y :: ys) h) : zq_ch nx ys (nx y) := by
  have c' : h = some y ∧ zq_ch nx ys (nx y) := c
  exact c'.2
theorem zq_mk {nx : Nat → Option Nat} {y : Nat} {ys : List Nat} {h g : Option Nat} (e : h = some y) (eg : nx y = g) (c : zq_ch nx ys g) : zq_ch nx (y :: ys) h := by
  subst eg
  exact And.intro e c
theorem zq_fr {nx nx' : Nat → Option Nat} (ys : List Nat) : ∀ h, (∀ y, y ∈ ys → nx' y = nx y) → zq_ch nx ys h → zq_ch nx' ys h := by
  induction ys with
  | nil => intro h _ c; exact c
  | cons y ys ih =>
    intro h e c
    exact zq_mk (zq_hd c) (e y (List.mem_cons_self ..)) (ih _ (fun z hz => e z (List.mem_cons_of_mem _ hz)) (zq_tl c))
/-- a chain that begins at y shows y's value in front -/
theorem zq_tp {nx : Nat → Option Nat} {pv : Nat → Int32} {y : Nat} (l : List Nat) (c : zq_ch nx l (some y)) : pv y = zq_top (l.map pv) := by
  cases l with
  | nil => exact absurd (zq_nil c) (by simp)
  | cons z zs =>
    have e : y = z := Option.some.inj (zq_hd c)
    subst e
    rfl
theorem zq_rv_fr {f g : Nat → Int32} (n : Nat) : (∀ j, j < n → g j = f j) → zq_rv g n = zq_rv f n := by
  induction n with
  | zero => intro _; rfl
  | succ n ih =>
    intro e
    show g n :: zq_rv g n = f n :: zq_rv f n
    rw [e n (by omega), ih (fun j hj => e j (by omega))]
theorem zq_rv_up (f : Nat → Int32) (n : Nat) (v : Int32) : zq_rv (upd f n v) (n + 1) = v :: zq_rv f n := by
  show upd f n v n :: zq_rv (upd f n v) n = v :: zq_rv f n
  rw [pk_us, zq_rv_fr n (fun j hj => pk_un (show j ≠ n by omega))]
theorem zq_ne {LP : List Nat} {a q : Nat} (ha : a ∈ LP) (hq : q ∉ LP) : a ≠ q := by
  intro e
  subst e
  exact hq ha
theorem zq_map {pv pv' : Nat → Int32} (l : List Nat) (h : ∀ a, a ∈ l → pv' a = pv a) : l.map pv' = l.map pv := by
  induction l with
  | nil => rfl
  | cons a l ih =>
    rw [List.map_cons, List.map_cons, h a (List.mem_cons_self ..), ih (fun z hz => h z (List.mem_cons_of_mem _ hz))]
/-! ===== one link more: the two makers of a link are one ===== -/
theorem zq_new {Q Q2 : St1 → Prop} {h : Option Nat} {LP : List Nat} {pv : Nat → Int32} {nx : Nat → Option Nat} {q : Nat} {v : Int32}
    (k1 : Q (LP ++ [q], va_up pv q v, va_up nx q h)) (k2 : Q2 (LP ++ [q], va_up pv q v, va_up nx q h)) :
    (h = none → wpX2_init Q (LP ++ [q], va_up pv q 0, va_up nx q none) q v) ∧ (∀ y : Nat, h = some y → wpX2_init_2 Q2 (LP ++ [q], va_up pv q 0, va_up nx q none) q y v) := by
  constructor
  · intro e
    subst e
    unfold wpX2_init
    dsimp only
    rw [bx_uu, bx_uu]
    exact ⟨l_in_new LP q, k1⟩
  · intro y e
    subst e
    unfold wpX2_init_2
    dsimp only
    rw [bx_uu, bx_uu]
    exact ⟨l_in_new LP q, k2⟩
end
section
/-! ===== the class: turnRound, in place ===== -/
theorem zq_t7 {post : Int32 → St3 → Prop} {h0 : Option Nat} {sz : Int32} {LP : List Nat} {pv : Nat → Int32} (rs : List Nat) :
    ∀ (y1 y2 : Nat) (ds : List Nat) (nx : Nat → Option Nat), zq_ch nx ds (some y1) → zq_ch nx (y2 :: rs) (some y2) → (y2 :: rs).Nodup → (∀ a, a ∈ y2 :: rs → a ∉ ds) → (∀ a, a ∈ y2 :: rs → a ∈ LP) →
    (∀ (y : Nat) (nx' : Nat → Option Nat), zq_ch nx' ((y2 :: rs).reverse ++ ds) (some y) → (∀ a, a ∉ y2 :: rs → nx' a = nx a) → post (pv y) (some y, sz, LP, pv, nx')) →
    wX5_turnRound_7 post (rs.length + 2) (.inr (.inr (.inr (y1, y2, h0, sz, LP, pv, nx)))) := by
  induction rs with
  | nil =>
    intro y1 y2 ds nx cd cr hn hd hm H
    have en : nx y2 = none := zq_nil (zq_tl cr)
    have h2 : y2 ∉ ds := hd y2 (List.mem_cons_self ..)
    refine ⟨hm y2 (List.mem_cons_self ..), co_none ?_ en⟩
    refine ⟨hm y2 (List.mem_cons_self ..), H y2 _ ?_ ?_⟩
    · exact zq_mk rfl (va_up_self _ _ _) (zq_fr ds _ (fun a ha => va_up_ne _ _ (zq_ne ha h2)) cd)
    · intro a ha
      exact va_up_ne _ _ (fun e : a = y2 => ha (by rw [e]; exact List.mem_cons_self ..))
  | cons y3 rs ih =>
    intro y1 y2 ds nx cd cr hn hd hm H
    have en : nx y2 = some y3 := zq_hd (zq_tl cr)
    have h2 : y2 ∉ ds := hd y2 (List.mem_cons_self ..)
    have h3 : y2 ∉ y3 :: rs := (List.nodup_cons.mp hn).1
    refine ⟨hm y2 (List.mem_cons_self ..), op_s en ?_⟩
    have ct : zq_ch nx (y3 :: rs) (some y3) := by
      have t := zq_tl cr
      rw [en] at t
      exact t
    refine ih y2 y3 (y2 :: ds) _ ?_ ?_ (List.nodup_cons.mp hn).2 ?_ (fun a ha => hm a (List.mem_cons_of_mem _ ha)) ?_
    · exact zq_mk rfl (va_up_self _ _ _) (zq_fr ds _ (fun a ha => va_up_ne _ _ (zq_ne ha h2)) cd)
    · exact zq_fr (y3 :: rs) _ (fun a ha => va_up_ne _ _ (zq_ne ha h3)) ct
    · intro a ha hz
      rcases List.mem_cons.mp hz with e | e
      · exact zq_ne ha h3 e
      · exact hd a (List.mem_cons_of_mem _ ha) e
    · intro y nx' c f
      refine H y nx' ?_ ?_
      · rw [List.reverse_cons, List.append_assoc]
        exact c
      · intro a ha
        rw [f a (fun z => ha (List.mem_cons_of_mem _ z))]
        exact va_up_ne _ _ (fun e : a = y2 => ha (by rw [e]; exact List.mem_cons_self ..))
theorem zq_x5 {post : Int32 → St3 → Prop} {h : Option Nat} {sz : Int32} {LP : List Nat} {pv : Nat → Int32} {nx : Nat → Option Nat} {ys : List Nat} (hc : zq_ch nx ys h) (hn : ys.Nodup) (hm : ∀ a, a ∈ ys → a ∈ LP)
    (H : ∀ (h' : Option Nat) (nx' : Nat → Option Nat), zq_ch nx' ys.reverse h' → (∀ a, a ∉ ys → nx' a = nx a) → post (zq_top (ys.reverse.map pv)) (h', sz, LP, pv, nx')) :
    wpX5_turnRound post (h, sz, LP, pv, nx) := by
  cases ys with
  | nil =>
    have e : h = none := hc
    subst e
    exact cm_none ⟨1, H none nx rfl (fun _ _ => rfl)⟩
  | cons y rs =>
    have e : h = some y := zq_hd hc
    subst e
    have my : y ∈ LP := hm y (List.mem_cons_self ..)
    cases rs with
    | nil =>
      have en : nx y = none := zq_nil (zq_tl hc)
      refine cm_some ⟨2, my, co_none ⟨my, ?_⟩ en⟩
      exact H (some y) (va_up nx y none) (zq_mk rfl (va_up_self _ _ _) rfl) (fun a ha => va_up_ne _ _ (fun e : a = y => ha (by rw [e]; exact List.mem_cons_self ..)))
    | cons y2 rs =>
      have en : nx y = some y2 := zq_hd (zq_tl hc)
      have h3 : y ∉ y2 :: rs := (List.nodup_cons.mp hn).1
      have ct : zq_ch nx (y2 :: rs) (some y2) := by
        have t := zq_tl hc
        rw [en] at t
        exact t
      refine cm_some ⟨rs.length + 2 + 1, my, op_s en ?_⟩
      refine zq_t7 rs y y2 [y] _ (zq_mk rfl (va_up_self _ _ _) rfl) (zq_fr (y2 :: rs) _ (fun a ha => va_up_ne _ _ (zq_ne ha h3)) ct) (List.nodup_cons.mp hn).2 ?_ (fun a ha => hm a (List.mem_cons_of_mem _ ha)) ?_
      · intro a ha hz
        exact zq_ne ha h3 (List.mem_singleton.mp hz)
      · intro z nx' c f
        have c' : zq_ch nx' (y :: y2 :: rs).reverse (some z) := by
          rw [List.reverse_cons]
          exact c
        rw [zq_tp (pv := pv) _ c']
        refine H (some z) nx' c' ?_
        intro a ha
        rw [f a (fun w => ha (List.mem_cons_of_mem _ w))]
        exact va_up_ne _ _ (fun e : a = y => ha (by rw [e]; exact List.mem_cons_self ..))
end
section
/-! ===== the plain form: linksOf ===== -/
theorem zq_l7 {post : Int32 → Prop} {h0 : Option Nat} {sz : Int32} {LP : List Nat} {pv : Nat → Int32} {nx : Nat → Option Nat} (rs : List Nat) :
    ∀ (y k : Nat), zq_ch nx (y :: rs) (some y) → (∀ a, a ∈ y :: rs → a ∈ LP) → post (nI (k + rs.length + 1)) →
    wX6_linksOf_7 post h0 sz LP pv nx (rs.length + 2) (.inr (nI k, y)) := by
  induction rs with
  | nil =>
    intro y k c hm hp x ex
    rw [nI_1] at ex
    subst ex
    exact ⟨hm y (List.mem_cons_self ..), co_none hp (zq_nil (zq_tl c))⟩
  | cons y2 rs ih =>
    intro y k c hm hp x ex
    rw [nI_1] at ex
    subst ex
    have en : nx y = some y2 := zq_hd (zq_tl c)
    have ct : zq_ch nx (y2 :: rs) (some y2) := by
      have t := zq_tl c
      rw [en] at t
      exact t
    refine ⟨hm y (List.mem_cons_self ..), op_s en ?_⟩
    refine ih y2 (k + 1) ct (fun a ha => hm a (List.mem_cons_of_mem _ ha)) ?_
    have e : k + 1 + rs.length + 1 = k + (y2 :: rs).length + 1 := by rw [List.length_cons]; omega
    rw [e]
    exact hp
theorem zq_links {post : Int32 → Prop} {h : Option Nat} {sz : Int32} {LP : List Nat} {pv : Nat → Int32} {nx : Nat → Option Nat} (ys : List Nat) (hc : zq_ch nx ys h) (hm : ∀ a, a ∈ ys → a ∈ LP) (hp : post (nI ys.length)) :
    wpX6_linksOf post (h, sz, LP, pv, nx) := by
  cases ys with
  | nil =>
    have e : h = none := hc
    subst e
    exact cm_none ⟨1, hp⟩
  | cons y rs =>
    have e : h = some y := zq_hd hc
    subst e
    refine cm_some ⟨rs.length + 2, ?_⟩
    refine zq_l7 rs y 0 hc hm ?_
    rw [show 0 + rs.length + 1 = (y :: rs).length by rw [List.length_cons]; omega]
    exact hp
/-! ===== the plain form: new links out of the values ===== -/
theorem zq_43 {post : Int32 → St3 → Prop} {mc ms : Nat} {sz : Int32} {am : Nat → Int32} {nm : Nat} {LP0 : List Nat} {pv0 : Nat → Int32} {nx0 : Nat → Option Nat} (hn : nm ≤ 8)
    (H : ∀ (ws : List Nat) (h : Option Nat) (LP : List Nat) (pv : Nat → Int32) (nx : Nat → Option Nat), zq_ch nx ws h → (∀ a, a ∈ ws → a ∈ LP) → ws.map pv = zq_rv am nm → (∀ a, a ∈ LP0 → a ∈ LP ∧ pv a = pv0 a ∧ nx a = nx0 a) → post (zq_top (zq_rv am nm)) (h, sz, LP, pv, nx)) (m : Nat) :
    ∀ (i : Nat) (ws : List Nat) (h : Option Nat) (kc ks : Nat) (LP : List Nat) (pv : Nat → Int32) (nx : Nat → Option Nat), i + m = nm → kc + m ≤ mc → ks + 2 * m ≤ ms → zq_ch nx ws h → (∀ a, a ∈ ws → a ∈ LP) → ws.map pv = zq_rv am i → (∀ a, a ∈ LP0 → a ∈ LP ∧ pv a = pv0 a ∧ nx a = nx0 a) →
    wX6_turnRound_43 post mc ms (m + 1) (nI i) kc ks h sz am nm LP pv nx := by
  induction m with
  | zero =>
    intro i ws h kc ks LP pv nx hi hk hs c hw hv hf
    have ei : i = nm := by omega
    subst ei
    refine pk_le i i (fun _ => ?_) (fun z => absurd z (by omega))
    have K := H ws h LP pv nx c hw hv hf
    refine pk_eq i 0 (fun z => ?_) (fun z => ?_)
    · subst z
      exact K
    · obtain ⟨j, ej⟩ : ∃ j, i = j + 1 := ⟨i - 1, by omega⟩
      subst ej
      have e1 : Int32.ofNat (j + 1) - 1 = nI j := nI_pred j
      rw [e1, nI_clamp (by omega)]
      exact ⟨vp_in_nI (by omega) (by omega), K⟩
  | succ m ih =>
    intro i ws h kc ks LP pv nx hi hk hs c hw hv hf
    refine pk_le nm i (fun z => absurd z (by omega)) (fun _ => ⟨by omega, by omega, fun q hq => ⟨vp_in_nI (by omega) (by omega), ?_⟩⟩)
    rw [nI_clamp (show i < 2 ^ 31 by omega)]
    have K : wX6_turnRound_43 post mc ms (m + 1) (nI (i + 1)) (kc + 1) (ks + 2) (some q) sz am nm (LP ++ [q]) (va_up pv q (am i)) (va_up nx q h) := by
      refine ih (i + 1) (q :: ws) (some q) (kc + 1) (ks + 2) _ _ _ (by omega) (by omega) (by omega) ?_ ?_ ?_ ?_
      · exact zq_mk rfl (va_up_self _ _ _) (zq_fr ws _ (fun a ha => va_up_ne _ _ (zq_ne (hw a ha) hq)) c)
      · intro a ha
        rcases List.mem_cons.mp ha with e | e
        · rw [e]
          exact l_in_new LP q
        · exact List.mem_append_left _ (hw a e)
      · show va_up pv q (am i) q :: ws.map (va_up pv q (am i)) = am i :: zq_rv am i
        rw [va_up_self, zq_map ws (fun a ha => va_up_ne _ _ (zq_ne (hw a ha) hq)), hv]
      · intro a ha
        obtain ⟨f1, f2, f3⟩ := hf a ha
        exact ⟨List.mem_append_left _ f1, (va_up_ne _ _ (zq_ne f1 hq)).trans f2, (va_up_ne _ _ (zq_ne f1 hq)).trans f3⟩
    exact zq_new (nm_r (nI_1 i) K) (nm_r (nI_1 i) K)
/-! ===== the plain form: the values read out ===== -/
theorem zq_14 {post : Int32 → St3 → Prop} {mc ms kc ks : Nat} {h0 : Option Nat} {sz : Int32} {nm : Nat} {LP : List Nat} {pv : Nat → Int32} {nx : Nat → Option Nat} (hn : nm ≤ 8) (rs : List Nat) :
    ∀ (y i : Nat) (am : Nat → Int32), zq_ch nx (y :: rs) (some y) → (∀ a, a ∈ y :: rs → a ∈ LP) → i + rs.length + 1 = nm →
    (∀ am' : Nat → Int32, zq_rv am' nm = ((y :: rs).map pv).reverse ++ zq_rv am i → ∃ n : Nat, wX6_turnRound_43 post mc ms n 0 kc ks none sz am' nm LP pv nx) →
    wX6_turnRound_14 post mc ms (rs.length + 2) (.inr (nI i, y, kc, ks, h0, sz, am, nm, LP, pv, nx)) := by
  induction rs with
  | nil =>
    intro y i am c hm hi H
    have ei : i + 1 = nm := hi
    refine ⟨hm y (List.mem_cons_self ..), vp_in_nI (by omega) (by omega), ?_⟩
    intro am' ea x ex
    rw [nI_clamp (show i < 2 ^ 31 by omega)] at ea
    subst ea
    rw [nI_1] at ex
    subst ex
    refine co_none ?_ (zq_nil (zq_tl c))
    refine H _ ?_
    rw [← ei, zq_rv_up]
    rfl
  | cons y2 rs ih =>
    intro y i am c hm hi H
    rw [List.length_cons] at hi
    have en : nx y = some y2 := zq_hd (zq_tl c)
    have ct : zq_ch nx (y2 :: rs) (some y2) := by
      have t := zq_tl c
      rw [en] at t
      exact t
    refine ⟨hm y (List.mem_cons_self ..), vp_in_nI (by omega) (by omega), ?_⟩
    intro am' ea x ex
    rw [nI_clamp (show i < 2 ^ 31 by omega)] at ea
    subst ea
    rw [nI_1] at ex
    subst ex
    refine op_s en ?_
    refine ih y2 (i + 1) _ ct (fun a ha => hm a (List.mem_cons_of_mem _ ha)) (by omega) ?_
    intro am' e
    refine H am' ?_
    rw [e, zq_rv_up, List.map_cons (l := y2 :: rs), List.reverse_cons, List.append_assoc]
    rfl
theorem zq_x6 {post : Int32 → St3 → Prop} {mc ms : Nat} {h : Option Nat} {sz : Int32} {LP : List Nat} {pv : Nat → Int32} {nx : Nat → Option Nat} (ys : List Nat) (hl : ys.length ≤ 8) (hmc : 9 ≤ mc) (hms : 24 ≤ ms) (hc : zq_ch nx ys h) (hm : ∀ a, a ∈ ys → a ∈ LP)
    (H : ∀ (ws : List Nat) (h' : Option Nat) (LP' : List Nat) (pv' : Nat → Int32) (nx' : Nat → Option Nat), zq_ch nx' ws h' → (∀ a, a ∈ ws → a ∈ LP') → ws.map pv' = (ys.map pv).reverse → (∀ a, a ∈ LP → a ∈ LP' ∧ pv' a = pv a ∧ nx' a = nx a) → post (zq_top (ys.map pv).reverse) (h', sz, LP', pv', nx')) :
    wpX6_turnRound post mc ms (h, sz, LP, pv, nx) := by
  have G : ∀ (am : Nat → Int32), zq_rv am ys.length = (ys.map pv).reverse → ∃ n : Nat, wX6_turnRound_43 post mc ms n 0 1 (0 + ys.length) none sz am ys.length LP pv nx := by
    intro am e
    refine ⟨ys.length + 1, ?_⟩
    refine zq_43 (LP0 := LP) (pv0 := pv) (nx0 := nx) hl ?_ ys.length 0 [] none 1 (0 + ys.length) LP pv nx (by omega) (by omega) (by omega) rfl ?_ rfl (fun a ha => ⟨ha, rfl, rfl⟩)
    · intro ws h' LP' pv' nx' c1 c2 c3 c4
      rw [e] at c3 ⊢
      exact H ws h' LP' pv' nx' c1 c2 c3 c4
    · intro a ha
      exact absurd ha (List.not_mem_nil)
  refine zq_links ys hc hm ?_
  refine ⟨nI_pos (by omega), ?_⟩
  intro nm en
  rw [nI_clamp (show ys.length < 2 ^ 31 by omega)] at en
  subst en
  refine ⟨by omega, by omega, by omega, ?_⟩
  cases ys with
  | nil =>
    have e : h = none := hc
    subst e
    exact cm_none ⟨1, G _ rfl⟩
  | cons y rs =>
    have e : h = some y := zq_hd hc
    subst e
    refine cm_some ⟨rs.length + 2, ?_⟩
    refine zq_14 hl rs y 0 _ hc hm (by rw [List.length_cons]; omega) ?_
    intro am' ea
    refine G am' ?_
    rw [ea]
    exact List.append_nil _
end
section
/-! ===== the law: the two chains side by side ===== -/
theorem zq_151 {post : Int32 → St1 → Prop} {mc ms kc ks len : Nat} {LP : List Nat} {pv : Nat → Int32} {nx : Nat → Option Nat} (hl : len ≤ 8) (hp : post 1 (LP, pv, nx)) (l1 : List Nat) :
    ∀ (l2 : List Nat) (a b i : Nat), zq_ch nx (a :: l1) (some a) → zq_ch nx (b :: l2) (some b) → (∀ z, z ∈ a :: l1 → z ∈ LP) → (∀ z, z ∈ b :: l2 → z ∈ LP) → (a :: l1).map pv = (b :: l2).map pv → i + l1.length + 1 = len →
    wL_lawOf_151 post mc ms (l1.length + 2) (.inr (.inr (.inr (nI len, nI i, a, b, kc, ks, LP, pv, nx)))) := by
  induction l1 with
  | nil =>
    intro l2 a b i c1 c2 m1 m2 hv hi
    have ei : i + 1 = len := hi
    rw [List.map_cons, List.map_cons] at hv
    have hv1 : pv a = pv b := (List.cons.inj hv).1
    have hv2 := (List.cons.inj hv).2
    cases l2 with
    | cons b2 l2 => exact absurd hv2 (by simp)
    | nil =>
      refine br_f (nI_ge (by omega) (by omega)) ⟨m1 a (List.mem_cons_self ..), m2 b (List.mem_cons_self ..), br_t hv1 ?_⟩
      refine co_none (co_none (nm_r (nI_1 i) ?_) (zq_nil (zq_tl c2))) (zq_nil (zq_tl c1))
      exact br_t (nI_le (by omega) (by omega)) hp
  | cons a2 l1 ih =>
    intro l2 a b i c1 c2 m1 m2 hv hi
    rw [List.length_cons] at hi
    rw [List.map_cons, List.map_cons (l := l2)] at hv
    have hv1 : pv a = pv b := (List.cons.inj hv).1
    have hv2 := (List.cons.inj hv).2
    cases l2 with
    | nil => exact absurd hv2 (by simp)
    | cons b2 l2 =>
      have e1 : nx a = some a2 := zq_hd (zq_tl c1)
      have e2 : nx b = some b2 := zq_hd (zq_tl c2)
      have t1 := zq_tl c1
      have t2 := zq_tl c2
      rw [e1] at t1
      rw [e2] at t2
      refine br_f (nI_ge (by omega) (by omega)) ⟨m1 a (List.mem_cons_self ..), m2 b (List.mem_cons_self ..), br_t hv1 ?_⟩
      refine op_s e1 (op_s e2 (nm_r (nI_1 i) ?_))
      exact ih l2 a2 b2 (i + 1) t1 t2 (fun z hz => m1 z (List.mem_cons_of_mem _ hz)) (fun z hz => m2 z (List.mem_cons_of_mem _ hz)) hv2 (by omega)
/-! ===== the law: two chains of the same values, both turned round ===== -/
theorem zq_32 {post : Int32 → St1 → Prop} {mc ms : Nat} {x0 x1 : Int32} {len : Nat} (hl : len ≤ 8) (hp : ∀ u : St1, post 1 u) (m : Nat) :
    ∀ (i : Nat) (ys zs : List Nat) (h1 h2 : Option Nat) (s1 s2 : Int32) (kc ks : Nat) (LP : List Nat) (pv : Nat → Int32) (nx : Nat → Option Nat), i + m = len → kc + 2 * m + 9 ≤ mc → ks + 4 * m + 24 ≤ ms → zq_ch nx ys h1 → zq_ch nx zs h2 → ys.Nodup → (∀ a, a ∈ zs → a ∉ ys) → (∀ a, a ∈ ys → a ∈ LP) → (∀ a, a ∈ zs → a ∈ LP) → ys.length = i → ys.map pv = zs.map pv →
    wL_lawOf_32 post mc ms x0 x1 (nI len) (m + 1) (nI i) kc ks h1 s1 h2 s2 LP pv nx := by
  induction m with
  | zero =>
    intro i ys zs h1 h2 s1 s2 kc ks LP pv nx hi hk hs c1 c2 hn hd m1 m2 hy hv
    have ei : i = len := by omega
    subst ei
    have hz : zs.length = ys.length := by
      have t := congrArg List.length hv
      rw [List.length_map, List.length_map] at t
      exact t.symm
    refine br_t (nI_le (by omega) (by omega)) ?_
    refine zq_x5 c1 hn m1 ?_
    intro g1 nx1 d1 f1
    have c2' : zq_ch nx1 zs h2 := zq_fr zs _ (fun a ha => f1 a (hd a ha)) c2
    refine ⟨9, 24, by omega, by omega, ?_⟩
    refine zq_x6 zs (by omega) (by omega) (by omega) c2' m2 ?_
    intro ws g2 LP' pv' nx' d2 m3 hw hf
    have er : ys.reverse.map pv = (zs.map pv).reverse := by
      rw [List.map_reverse, hv]
    have d1' : zq_ch nx' ys.reverse g1 := zq_fr _ _ (fun a ha => (hf a (m1 a (List.mem_reverse.mp ha))).2.2) d1
    have m4 : ∀ a, a ∈ ys.reverse → a ∈ LP' := fun a ha => (hf a (m1 a (List.mem_reverse.mp ha))).1
    have hq : ys.reverse.map pv' = ws.map pv' := by
      rw [hw, ← er]
      exact zq_map _ (fun a ha => (hf a (m1 a (List.mem_reverse.mp ha))).2.1)
    have hr : ys.reverse.length = i := by
      rw [List.length_reverse]
      exact hy
    refine br_t (by rw [er]) (br_t rfl ?_)
    generalize ys.reverse = us at d1' m4 hq hr
    cases us with
    | nil =>
      cases ws with
      | cons b l2 => exact absurd hq (by simp)
      | nil =>
        have e1 : g1 = none := d1'
        have e2 : g2 = none := d2
        subst e1 e2
        have e0 : 0 = i := hr
        refine cm_none (cm_none ⟨1, ?_⟩)
        rw [← e0]
        exact br_t (nI_le (a := 0) (b := 0) (Nat.le_refl 0) (by decide)) (hp _)
    | cons a l1 =>
      cases ws with
      | nil => exact absurd hq (by simp)
      | cons b l2 =>
        have e1 : g1 = some a := zq_hd d1'
        have e2 : g2 = some b := zq_hd d2
        subst e1 e2
        rw [List.length_cons] at hr
        refine cm_some (cm_some ⟨l1.length + 2, ?_⟩)
        exact zq_151 hl (hp _) l1 l2 a b 0 d1' d2 m4 m3 hq (by omega)
  | succ m ih =>
    intro i ys zs h1 h2 s1 s2 kc ks LP pv nx hi hk hs c1 c2 hn hd m1 m2 hy hv
    refine br_f (nI_ge (by omega) (by omega)) ?_
    intro v _
    have K : ∀ q, q ∉ LP → ∀ q2, q2 ∉ LP ++ [q] → wL_lawOf_32 post mc ms x0 x1 (nI len) (m + 1) (nI (i + 1)) (kc + 2) (ks + 4) (some q) s1 (some q2) s2 (LP ++ [q] ++ [q2]) (va_up (va_up pv q v) q2 v) (va_up (va_up nx q h1) q2 h2) := by
      intro q hq q2 hq2
      have n1 : ∀ a, a ∈ LP → a ≠ q := fun a ha => zq_ne ha hq
      have n2 : ∀ a, a ∈ LP → a ≠ q2 := fun a ha => zq_ne (List.mem_append_left _ ha) hq2
      have n3 : q ≠ q2 := zq_ne (l_in_new LP q) hq2
      have F : ∀ a, a ∈ LP → va_up (va_up nx q h1) q2 h2 a = nx a := fun a ha => (va_up_ne _ _ (n2 a ha)).trans (va_up_ne _ _ (n1 a ha))
      have V : ∀ a, a ∈ LP → va_up (va_up pv q v) q2 v a = pv a := fun a ha => (va_up_ne _ _ (n2 a ha)).trans (va_up_ne _ _ (n1 a ha))
      refine ih (i + 1) (q :: ys) (q2 :: zs) (some q) (some q2) s1 s2 (kc + 2) (ks + 4) _ _ _ (by omega) (by omega) (by omega) ?_ ?_ ?_ ?_ ?_ ?_ ?_ ?_
      · exact zq_mk rfl ((va_up_ne _ _ n3).trans (va_up_self _ _ _)) (zq_fr ys _ (fun a ha => F a (m1 a ha)) c1)
      · exact zq_mk rfl (va_up_self _ _ _) (zq_fr zs _ (fun a ha => F a (m2 a ha)) c2)
      · exact List.nodup_cons.mpr ⟨fun z => hq (m1 q z), hn⟩
      · intro a ha hb
        rcases List.mem_cons.mp ha with e | e
        · rcases List.mem_cons.mp hb with g | g
          · exact n3 (g.symm.trans e)
          · exact n2 a (m1 a g) e
        · rcases List.mem_cons.mp hb with g | g
          · exact n1 a (m2 a e) g
          · exact hd a e g
      · intro a ha
        rcases List.mem_cons.mp ha with e | e
        · rw [e]
          exact List.mem_append_left _ (l_in_new LP q)
        · exact List.mem_append_left _ (List.mem_append_left _ (m1 a e))
      · intro a ha
        rcases List.mem_cons.mp ha with e | e
        · rw [e]
          exact l_in_new _ q2
        · exact List.mem_append_left _ (List.mem_append_left _ (m2 a e))
      · rw [List.length_cons, hy]
      · rw [List.map_cons, List.map_cons, va_up_self, va_up_ne _ _ n3, va_up_self, zq_map ys (fun a ha => V a (m1 a ha)), zq_map zs (fun a ha => V a (m2 a ha)), hv]
    have K2 : ∀ q, q ∉ LP → (kc + 2 ≤ mc ∧ ks + 4 ≤ ms ∧ ∀ q2, q2 ∉ LP ++ [q] → ∀ x : Int32, x = nI i + 1 → wL_lawOf_32 post mc ms x0 x1 (nI len) (m + 1) x (kc + 2) (ks + 4) (some q) s1 (some q2) s2 (LP ++ [q] ++ [q2]) (va_up (va_up pv q v) q2 v) (va_up (va_up nx q h1) q2 h2)) := by
      intro q hq
      refine ⟨by omega, by omega, ?_⟩
      intro q2 hq2 x ex
      rw [nI_1] at ex
      subst ex
      exact K q hq q2 hq2
    refine ⟨by omega, by omega, fun q hq => ?_⟩
    obtain ⟨k1, k2, k3⟩ := K2 q hq
    exact zq_new ⟨k1, k2, fun q2 hq2 => zq_new (k3 q2 hq2) (k3 q2 hq2)⟩ ⟨k1, k2, fun q2 hq2 => zq_new (k3 q2 hq2) (k3 q2 hq2)⟩
/-! ===== the law's entry ===== -/
theorem zq_len (x y : Int32) : ∃ len : Nat, len ≤ 8 ∧ (x &&& 7) + (y &&& 1) = nI len := by
  obtain ⟨a, ha, ea⟩ := pk_andE x (m := 7) 3 (by decide)
  obtain ⟨b, hb, eb⟩ := pk_andE y (m := 1) 1 (by decide)
  refine ⟨a + b, by omega, ?_⟩
  rw [ea, eb, nI_add]
theorem zq_of {post : Int32 → St1 → Prop} {mc ms : Nat} {x0 x1 x2 : Int32} (hmc : 27 ≤ mc) (hms : 60 ≤ ms) (hp : ∀ u : St1, post 1 u) : wpL_lawOf post mc ms ([], (fun _ => 0), (fun _ => none)) x0 x1 x2 := by
  intro x ex
  obtain ⟨len, hl, el⟩ := zq_len x2 ((x2.toUInt32 >>> ((3 : Int32).toUInt32 &&& Int32.toUInt32 31)).toInt32)
  rw [el] at ex
  subst ex
  refine ⟨by omega, by omega, ?_⟩
  refine ⟨by omega, by omega, ?_⟩
  refine ⟨len + 1, ?_⟩
  exact zq_32 hl hp len 0 [] [] none none 0 0 2 4 [] _ _ (by omega) (by omega) (by omega) rfl rfl List.nodup_nil (fun a ha => absurd ha List.not_mem_nil) (fun a ha => absurd ha List.not_mem_nil) (fun a ha => absurd ha List.not_mem_nil) rfl rfl
theorem zq_cell {post : Int32 → Prop} {L : Nat} {xs : Nat → Int32} {u : St0} (k : Nat) (hk : k < 3) (hL : L ≤ 3) (h : ∀ r, post r) : wpL_cellAt post L xs u (nI k) :=
  pk_le L k (fun _ => h _) (fun z => ⟨vp_in_nI z (by omega), h _⟩)
end
section
theorem i_vc (xs : Nat → Int32) (L : Nat) (hL : L ≤ 3) : wpL_law (fun r => r = 1) L xs := by
  unfold wpL_law
  refine zq_cell 0 (by decide) hL (fun r1 => ?_)
  refine zq_cell 1 (by decide) hL (fun r2 => ?_)
  refine zq_cell 2 (by decide) hL (fun r3 => ?_)
  exact ⟨42, 672, by omega, by omega, zq_of (by omega) (by omega) (fun ⟨_, _, _⟩ => rfl)⟩
end
