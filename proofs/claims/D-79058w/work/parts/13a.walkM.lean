set_option maxRecDepth 100000
theorem rX2_init_0 {Γ : GE} {l : Launch} {h MC MS : Nat} {Q : Option Value → GH → Prop} {bc bs : Nat} {G : GH} (x : Nat) (F : (0 < h ∧ 1 ≤ bc ∧ 298 ≤ bs ∧ ∀ q2, gC G q2 = 0 → gA Γ q2 → gC (nA G q2 0 298) x = kO 1 ∧ gM (nA G q2 0 298) x = true ∧ 1 ≤ (bc - 1) ∧ 298 ≤ (bs - 298) ∧ ∀ q9, gC (sR (nA G q2 0 298) x 0 (some q2)) q9 = 0 → gA Γ q9 → gC (nA (sR (nA G q2 0 298) x 0 (some q2)) q9 0 298) x = kO 1 ∧ gM (nA (sR (nA G q2 0 298) x 0 (some q2)) q9 0 298) x = true ∧ 1 ≤ ((bc - 1) - 1) ∧ 2384 ≤ ((bs - 298) - 298) ∧ ∀ q16, gC (sR (nA (sR (nA G q2 0 298) x 0 (some q2)) q9 0 298) x 1 (some q9)) q16 = 0 → gA Γ q16 → gC (nA (sR (nA (sR (nA G q2 0 298) x 0 (some q2)) q9 0 298) x 1 (some q9)) q16 0 2384) x = kO 1 ∧ gM (nA (sR (nA (sR (nA G q2 0 298) x 0 (some q2)) q9 0 298) x 1 (some q9)) q16 0 2384) x = true ∧ 1 ≤ (((bc - 1) - 1) - 1) ∧ 298 ≤ (((bs - 298) - 298) - 2384) ∧ ∀ q23, gC (sR (nA (sR (nA (sR (nA G q2 0 298) x 0 (some q2)) q9 0 298) x 1 (some q9)) q16 0 2384) x 3 (some q16)) q23 = 0 → gA Γ q23 → gC (nA (sR (nA (sR (nA (sR (nA G q2 0 298) x 0 (some q2)) q9 0 298) x 1 (some q9)) q16 0 2384) x 3 (some q16)) q23 0 298) x = kO 1 ∧ gM (nA (sR (nA (sR (nA (sR (nA G q2 0 298) x 0 (some q2)) q9 0 298) x 1 (some q9)) q16 0 2384) x 3 (some q16)) q23 0 298) x = true ∧ 1 ≤ ((((bc - 1) - 1) - 1) - 1) ∧ 48 ≤ ((((bs - 298) - 298) - 2384) - 298) ∧ ∀ q30, gC (sR (nA (sR (nA (sR (nA (sR (nA G q2 0 298) x 0 (some q2)) q9 0 298) x 1 (some q9)) q16 0 2384) x 3 (some q16)) q23 0 298) x 5 (some q23)) q30 = 0 → gA Γ q30 → gC (nA (sR (nA (sR (nA (sR (nA (sR (nA G q2 0 298) x 0 (some q2)) q9 0 298) x 1 (some q9)) q16 0 2384) x 3 (some q16)) q23 0 298) x 5 (some q23)) q30 0 48) x = kO 1 ∧ gM (nA (sR (nA (sR (nA (sR (nA (sR (nA G q2 0 298) x 0 (some q2)) q9 0 298) x 1 (some q9)) q16 0 2384) x 3 (some q16)) q23 0 298) x 5 (some q23)) q30 0 48) x = true ∧ 1 ≤ (((((bc - 1) - 1) - 1) - 1) - 1) ∧ 25 ≤ (((((bs - 298) - 298) - 2384) - 298) - 48) ∧ ∀ q37, gC (sR (nA (sR (nA (sR (nA (sR (nA (sR (nA G q2 0 298) x 0 (some q2)) q9 0 298) x 1 (some q9)) q16 0 2384) x 3 (some q16)) q23 0 298) x 5 (some q23)) q30 0 48) x 7 (some q30)) q37 = 0 → gA Γ q37 → gC (nA (sR (nA (sR (nA (sR (nA (sR (nA (sR (nA G q2 0 298) x 0 (some q2)) q9 0 298) x 1 (some q9)) q16 0 2384) x 3 (some q16)) q23 0 298) x 5 (some q23)) q30 0 48) x 7 (some q30)) q37 0 25) x = kO 1 ∧ gM (nA (sR (nA (sR (nA (sR (nA (sR (nA (sR (nA G q2 0 298) x 0 (some q2)) q9 0 298) x 1 (some q9)) q16 0 2384) x 3 (some q16)) q23 0 298) x 5 (some q23)) q30 0 48) x 7 (some q30)) q37 0 25) x = true ∧ 1 ≤ ((((((bc - 1) - 1) - 1) - 1) - 1) - 1) ∧ 25 ≤ ((((((bs - 298) - 298) - 2384) - 298) - 48) - 25) ∧ ∀ q44, gC (sR (nA (sR (nA (sR (nA (sR (nA (sR (nA (sR (nA G q2 0 298) x 0 (some q2)) q9 0 298) x 1 (some q9)) q16 0 2384) x 3 (some q16)) q23 0 298) x 5 (some q23)) q30 0 48) x 7 (some q30)) q37 0 25) x 10 (some q37)) q44 = 0 → gA Γ q44 → gC (nA (sR (nA (sR (nA (sR (nA (sR (nA (sR (nA (sR (nA G q2 0 298) x 0 (some q2)) q9 0 298) x 1 (some q9)) q16 0 2384) x 3 (some q16)) q23 0 298) x 5 (some q23)) q30 0 48) x 7 (some q30)) q37 0 25) x 10 (some q37)) q44 0 25) x = kO 1 ∧ gM (nA (sR (nA (sR (nA (sR (nA (sR (nA (sR (nA (sR (nA G q2 0 298) x 0 (some q2)) q9 0 298) x 1 (some q9)) q16 0 2384) x 3 (some q16)) q23 0 298) x 5 (some q23)) q30 0 48) x 7 (some q30)) q37 0 25) x 10 (some q37)) q44 0 25) x = true ∧ 1 ≤ (((((((bc - 1) - 1) - 1) - 1) - 1) - 1) - 1) ∧ 576 ≤ (((((((bs - 298) - 298) - 2384) - 298) - 48) - 25) - 25) ∧ ∀ q51, gC (sR (nA (sR (nA (sR (nA (sR (nA (sR (nA (sR (nA (sR (nA G q2 0 298) x 0 (some q2)) q9 0 298) x 1 (some q9)) q16 0 2384) x 3 (some q16)) q23 0 298) x 5 (some q23)) q30 0 48) x 7 (some q30)) q37 0 25) x 10 (some q37)) q44 0 25) x 16 (some q44)) q51 = 0 → gA Γ q51 → gC (nA (sR (nA (sR (nA (sR (nA (sR (nA (sR (nA (sR (nA (sR (nA G q2 0 298) x 0 (some q2)) q9 0 298) x 1 (some q9)) q16 0 2384) x 3 (some q16)) q23 0 298) x 5 (some q23)) q30 0 48) x 7 (some q30)) q37 0 25) x 10 (some q37)) q44 0 25) x 16 (some q44)) q51 0 576) x = kO 1 ∧ gM (nA (sR (nA (sR (nA (sR (nA (sR (nA (sR (nA (sR (nA (sR (nA G q2 0 298) x 0 (some q2)) q9 0 298) x 1 (some q9)) q16 0 2384) x 3 (some q16)) q23 0 298) x 5 (some q23)) q30 0 48) x 7 (some q30)) q37 0 25) x 10 (some q37)) q44 0 25) x 16 (some q44)) q51 0 576) x = true ∧ 1 ≤ ((((((((bc - 1) - 1) - 1) - 1) - 1) - 1) - 1) - 1) ∧ 6 ≤ ((((((((bs - 298) - 298) - 2384) - 298) - 48) - 25) - 25) - 576) ∧ ∀ q58, gC (sR (nA (sR (nA (sR (nA (sR (nA (sR (nA (sR (nA (sR (nA (sR (nA G q2 0 298) x 0 (some q2)) q9 0 298) x 1 (some q9)) q16 0 2384) x 3 (some q16)) q23 0 298) x 5 (some q23)) q30 0 48) x 7 (some q30)) q37 0 25) x 10 (some q37)) q44 0 25) x 16 (some q44)) q51 0 576) x 17 (some q51)) q58 = 0 → gA Γ q58 → gC (nA (sR (nA (sR (nA (sR (nA (sR (nA (sR (nA (sR (nA (sR (nA (sR (nA G q2 0 298) x 0 (some q2)) q9 0 298) x 1 (some q9)) q16 0 2384) x 3 (some q16)) q23 0 298) x 5 (some q23)) q30 0 48) x 7 (some q30)) q37 0 25) x 10 (some q37)) q44 0 25) x 16 (some q44)) q51 0 576) x 17 (some q51)) q58 0 6) x = kO 1 ∧ gM (nA (sR (nA (sR (nA (sR (nA (sR (nA (sR (nA (sR (nA (sR (nA (sR (nA G q2 0 298) x 0 (some q2)) q9 0 298) x 1 (some q9)) q16 0 2384) x 3 (some q16)) q23 0 298) x 5 (some q23)) q30 0 48) x 7 (some q30)) q37 0 25) x 10 (some q37)) q44 0 25) x 16 (some q44)) q51 0 576) x 17 (some q51)) q58 0 6) x = true ∧ 1 ≤ (((((((((bc - 1) - 1) - 1) - 1) - 1) - 1) - 1) - 1) - 1) ∧ 6 ≤ (((((((((bs - 298) - 298) - 2384) - 298) - 48) - 25) - 25) - 576) - 6) ∧ ∀ q65, gC (sR (nA (sR (nA (sR (nA (sR (nA (sR (nA (sR (nA (sR (nA (sR (nA (sR (nA G q2 0 298) x 0 (some q2)) q9 0 298) x 1 (some q9)) q16 0 2384) x 3 (some q16)) q23 0 298) x 5 (some q23)) q30 0 48) x 7 (some q30)) q37 0 25) x 10 (some q37)) q44 0 25) x 16 (some q44)) q51 0 576) x 17 (some q51)) q58 0 6) x 19 (some q58)) q65 = 0 → gA Γ q65 → gC (nA (sR (nA (sR (nA (sR (nA (sR (nA (sR (nA (sR (nA (sR (nA (sR (nA (sR (nA G q2 0 298) x 0 (some q2)) q9 0 298) x 1 (some q9)) q16 0 2384) x 3 (some q16)) q23 0 298) x 5 (some q23)) q30 0 48) x 7 (some q30)) q37 0 25) x 10 (some q37)) q44 0 25) x 16 (some q44)) q51 0 576) x 17 (some q51)) q58 0 6) x 19 (some q58)) q65 0 6) x = kO 1 ∧ gM (nA (sR (nA (sR (nA (sR (nA (sR (nA (sR (nA (sR (nA (sR (nA (sR (nA (sR (nA G q2 0 298) x 0 (some q2)) q9 0 298) x 1 (some q9)) q16 0 2384) x 3 (some q16)) q23 0 298) x 5 (some q23)) q30 0 48) x 7 (some q30)) q37 0 25) x 10 (some q37)) q44 0 25) x 16 (some q44)) q51 0 576) x 17 (some q51)) q58 0 6) x 19 (some q58)) q65 0 6) x = true ∧ 1 ≤ ((((((((((bc - 1) - 1) - 1) - 1) - 1) - 1) - 1) - 1) - 1) - 1) ∧ 768 ≤ ((((((((((bs - 298) - 298) - 2384) - 298) - 48) - 25) - 25) - 576) - 6) - 6) ∧ ∀ q72, gC (sR (nA (sR (nA (sR (nA (sR (nA (sR (nA (sR (nA (sR (nA (sR (nA (sR (nA (sR (nA G q2 0 298) x 0 (some q2)) q9 0 298) x 1 (some q9)) q16 0 2384) x 3 (some q16)) q23 0 298) x 5 (some q23)) q30 0 48) x 7 (some q30)) q37 0 25) x 10 (some q37)) q44 0 25) x 16 (some q44)) q51 0 576) x 17 (some q51)) q58 0 6) x 19 (some q58)) q65 0 6) x 20 (some q65)) q72 = 0 → gA Γ q72 → gC (nA (sR (nA (sR (nA (sR (nA (sR (nA (sR (nA (sR (nA (sR (nA (sR (nA (sR (nA (sR (nA G q2 0 298) x 0 (some q2)) q9 0 298) x 1 (some q9)) q16 0 2384) x 3 (some q16)) q23 0 298) x 5 (some q23)) q30 0 48) x 7 (some q30)) q37 0 25) x 10 (some q37)) q44 0 25) x 16 (some q44)) q51 0 576) x 17 (some q51)) q58 0 6) x 19 (some q58)) q65 0 6) x 20 (some q65)) q72 3 768) x = kO 1 ∧ gM (nA (sR (nA (sR (nA (sR (nA (sR (nA (sR (nA (sR (nA (sR (nA (sR (nA (sR (nA (sR (nA G q2 0 298) x 0 (some q2)) q9 0 298) x 1 (some q9)) q16 0 2384) x 3 (some q16)) q23 0 298) x 5 (some q23)) q30 0 48) x 7 (some q30)) q37 0 25) x 10 (some q37)) q44 0 25) x 16 (some q44)) q51 0 576) x 17 (some q51)) q58 0 6) x 19 (some q58)) q65 0 6) x 20 (some q65)) q72 3 768) x = true ∧ 1 ≤ (((((((((((bc - 1) - 1) - 1) - 1) - 1) - 1) - 1) - 1) - 1) - 1) - 1) ∧ 60 ≤ (((((((((((bs - 298) - 298) - 2384) - 298) - 48) - 25) - 25) - 576) - 6) - 6) - 768) ∧ ∀ q79, gC (sR (nA (sR (nA (sR (nA (sR (nA (sR (nA (sR (nA (sR (nA (sR (nA (sR (nA (sR (nA (sR (nA G q2 0 298) x 0 (some q2)) q9 0 298) x 1 (some q9)) q16 0 2384) x 3 (some q16)) q23 0 298) x 5 (some q23)) q30 0 48) x 7 (some q30)) q37 0 25) x 10 (some q37)) q44 0 25) x 16 (some q44)) q51 0 576) x 17 (some q51)) q58 0 6) x 19 (some q58)) q65 0 6) x 20 (some q65)) q72 3 768) x 23 (some q72)) q79 = 0 → gA Γ q79 → gC (nA (sR (nA (sR (nA (sR (nA (sR (nA (sR (nA (sR (nA (sR (nA (sR (nA (sR (nA (sR (nA (sR (nA G q2 0 298) x 0 (some q2)) q9 0 298) x 1 (some q9)) q16 0 2384) x 3 (some q16)) q23 0 298) x 5 (some q23)) q30 0 48) x 7 (some q30)) q37 0 25) x 10 (some q37)) q44 0 25) x 16 (some q44)) q51 0 576) x 17 (some q51)) q58 0 6) x 19 (some q58)) q65 0 6) x 20 (some q65)) q72 3 768) x 23 (some q72)) q79 3 60) x = kO 1 ∧ gM (nA (sR (nA (sR (nA (sR (nA (sR (nA (sR (nA (sR (nA (sR (nA (sR (nA (sR (nA (sR (nA (sR (nA G q2 0 298) x 0 (some q2)) q9 0 298) x 1 (some q9)) q16 0 2384) x 3 (some q16)) q23 0 298) x 5 (some q23)) q30 0 48) x 7 (some q30)) q37 0 25) x 10 (some q37)) q44 0 25) x 16 (some q44)) q51 0 576) x 17 (some q51)) q58 0 6) x 19 (some q58)) q65 0 6) x 20 (some q65)) q72 3 768) x 23 (some q72)) q79 3 60) x = true ∧ 1 ≤ ((((((((((((bc - 1) - 1) - 1) - 1) - 1) - 1) - 1) - 1) - 1) - 1) - 1) - 1) ∧ 4 ≤ ((((((((((((bs - 298) - 298) - 2384) - 298) - 48) - 25) - 25) - 576) - 6) - 6) - 768) - 60) ∧ ∀ q86, gC (sR (nA (sR (nA (sR (nA (sR (nA (sR (nA (sR (nA (sR (nA (sR (nA (sR (nA (sR (nA (sR (nA (sR (nA G q2 0 298) x 0 (some q2)) q9 0 298) x 1 (some q9)) q16 0 2384) x 3 (some q16)) q23 0 298) x 5 (some q23)) q30 0 48) x 7 (some q30)) q37 0 25) x 10 (some q37)) q44 0 25) x 16 (some q44)) q51 0 576) x 17 (some q51)) q58 0 6) x 19 (some q58)) q65 0 6) x 20 (some q65)) q72 3 768) x 23 (some q72)) q79 3 60) x 25 (some q79)) q86 = 0 → gA Γ q86 → gC (nA (sR (nA (sR (nA (sR (nA (sR (nA (sR (nA (sR (nA (sR (nA (sR (nA (sR (nA (sR (nA (sR (nA (sR (nA G q2 0 298) x 0 (some q2)) q9 0 298) x 1 (some q9)) q16 0 2384) x 3 (some q16)) q23 0 298) x 5 (some q23)) q30 0 48) x 7 (some q30)) q37 0 25) x 10 (some q37)) q44 0 25) x 16 (some q44)) q51 0 576) x 17 (some q51)) q58 0 6) x 19 (some q58)) q65 0 6) x 20 (some q65)) q72 3 768) x 23 (some q72)) q79 3 60) x 25 (some q79)) q86 0 4) x = kO 1 ∧ gM (nA (sR (nA (sR (nA (sR (nA (sR (nA (sR (nA (sR (nA (sR (nA (sR (nA (sR (nA (sR (nA (sR (nA (sR (nA G q2 0 298) x 0 (some q2)) q9 0 298) x 1 (some q9)) q16 0 2384) x 3 (some q16)) q23 0 298) x 5 (some q23)) q30 0 48) x 7 (some q30)) q37 0 25) x 10 (some q37)) q44 0 25) x 16 (some q44)) q51 0 576) x 17 (some q51)) q58 0 6) x 19 (some q58)) q65 0 6) x 20 (some q65)) q72 3 768) x 23 (some q72)) q79 3 60) x 25 (some q79)) q86 0 4) x = true ∧ gC (sR (nA (sR (nA (sR (nA (sR (nA (sR (nA (sR (nA (sR (nA (sR (nA (sR (nA (sR (nA (sR (nA (sR (nA (sR (nA G q2 0 298) x 0 (some q2)) q9 0 298) x 1 (some q9)) q16 0 2384) x 3 (some q16)) q23 0 298) x 5 (some q23)) q30 0 48) x 7 (some q30)) q37 0 25) x 10 (some q37)) q44 0 25) x 16 (some q44)) q51 0 576) x 17 (some q51)) q58 0 6) x 19 (some q58)) q65 0 6) x 20 (some q65)) q72 3 768) x 23 (some q72)) q79 3 60) x 25 (some q79)) q86 0 4) x 29 (some q86)) (Γ.2.2.2 6) = kA 0 ∧ ∃ a94, (gR (sR (nA (sR (nA (sR (nA (sR (nA (sR (nA (sR (nA (sR (nA (sR (nA (sR (nA (sR (nA (sR (nA (sR (nA (sR (nA G q2 0 298) x 0 (some q2)) q9 0 298) x 1 (some q9)) q16 0 2384) x 3 (some q16)) q23 0 298) x 5 (some q23)) q30 0 48) x 7 (some q30)) q37 0 25) x 10 (some q37)) q44 0 25) x 16 (some q44)) q51 0 576) x 17 (some q51)) q58 0 6) x 19 (some q58)) q65 0 6) x 20 (some q65)) q72 3 768) x 23 (some q72)) q79 3 60) x 25 (some q79)) q86 0 4) x 29 (some q86)) x 0) = some a94 ∧ gC (sR (nA (sR (nA (sR (nA (sR (nA (sR (nA (sR (nA (sR (nA (sR (nA (sR (nA (sR (nA (sR (nA (sR (nA (sR (nA G q2 0 298) x 0 (some q2)) q9 0 298) x 1 (some q9)) q16 0 2384) x 3 (some q16)) q23 0 298) x 5 (some q23)) q30 0 48) x 7 (some q30)) q37 0 25) x 10 (some q37)) q44 0 25) x 16 (some q44)) q51 0 576) x 17 (some q51)) q58 0 6) x 19 (some q58)) q65 0 6) x 20 (some q65)) q72 3 768) x 23 (some q72)) q79 3 60) x 25 (some q79)) q86 0 4) x 29 (some q86)) a94 = kA 0 ∧ gM (sR (nA (sR (nA (sR (nA (sR (nA (sR (nA (sR (nA (sR (nA (sR (nA (sR (nA (sR (nA (sR (nA (sR (nA (sR (nA G q2 0 298) x 0 (some q2)) q9 0 298) x 1 (some q9)) q16 0 2384) x 3 (some q16)) q23 0 298) x 5 (some q23)) q30 0 48) x 7 (some q30)) q37 0 25) x 10 (some q37)) q44 0 25) x 16 (some q44)) q51 0 576) x 17 (some q51)) q58 0 6) x 19 (some q58)) q65 0 6) x 20 (some q65)) q72 3 768) x 23 (some q72)) q79 3 60) x 25 (some q79)) q86 0 4) x 29 (some q86)) a94 = true ∧ (0 : Int32).toNatClampNeg + (8 : Int32).toNatClampNeg ≤ gL (sR (nA (sR (nA (sR (nA (sR (nA (sR (nA (sR (nA (sR (nA (sR (nA (sR (nA (sR (nA (sR (nA (sR (nA (sR (nA G q2 0 298) x 0 (some q2)) q9 0 298) x 1 (some q9)) q16 0 2384) x 3 (some q16)) q23 0 298) x 5 (some q23)) q30 0 48) x 7 (some q30)) q37 0 25) x 10 (some q37)) q44 0 25) x 16 (some q44)) q51 0 576) x 17 (some q51)) q58 0 6) x 19 (some q58)) q65 0 6) x 20 (some q65)) q72 3 768) x 23 (some q72)) q79 3 60) x 25 (some q79)) q86 0 4) x 29 (some q86)) (Γ.2.2.2 6) ∧ (2 : Int32).toNatClampNeg + (8 : Int32).toNatClampNeg ≤ gL (sR (nA (sR (nA (sR (nA (sR (nA (sR (nA (sR (nA (sR (nA (sR (nA (sR (nA (sR (nA (sR (nA (sR (nA (sR (nA G q2 0 298) x 0 (some q2)) q9 0 298) x 1 (some q9)) q16 0 2384) x 3 (some q16)) q23 0 298) x 5 (some q23)) q30 0 48) x 7 (some q30)) q37 0 25) x 10 (some q37)) q44 0 25) x 16 (some q44)) q51 0 576) x 17 (some q51)) q58 0 6) x 19 (some q58)) q65 0 6) x 20 (some q65)) q72 3 768) x 23 (some q72)) q79 3 60) x 25 (some q79)) q86 0 4) x 29 (some q86)) a94 ∧ 0 < h ∧ ∀ H101, H101 = (wI (sR (nA (sR (nA (sR (nA (sR (nA (sR (nA (sR (nA (sR (nA (sR (nA (sR (nA (sR (nA (sR (nA (sR (nA (sR (nA G q2 0 298) x 0 (some q2)) q9 0 298) x 1 (some q9)) q16 0 2384) x 3 (some q16)) q23 0 298) x 5 (some q23)) q30 0 48) x 7 (some q30)) q37 0 25) x 10 (some q37)) q44 0 25) x 16 (some q44)) q51 0 576) x 17 (some q51)) q58 0 6) x 19 (some q58)) q65 0 6) x 20 (some q65)) q72 3 768) x 23 (some q72)) q79 3 60) x 25 (some q79)) q86 0 4) x 29 (some q86)) a94 (va_cpy (gI (sR (nA (sR (nA (sR (nA (sR (nA (sR (nA (sR (nA (sR (nA (sR (nA (sR (nA (sR (nA (sR (nA (sR (nA (sR (nA G q2 0 298) x 0 (some q2)) q9 0 298) x 1 (some q9)) q16 0 2384) x 3 (some q16)) q23 0 298) x 5 (some q23)) q30 0 48) x 7 (some q30)) q37 0 25) x 10 (some q37)) q44 0 25) x 16 (some q44)) q51 0 576) x 17 (some q51)) q58 0 6) x 19 (some q58)) q65 0 6) x 20 (some q65)) q72 3 768) x 23 (some q72)) q79 3 60) x 25 (some q79)) q86 0 4) x 29 (some q86)) (Γ.2.2.2 6)) (gI (sR (nA (sR (nA (sR (nA (sR (nA (sR (nA (sR (nA (sR (nA (sR (nA (sR (nA (sR (nA (sR (nA (sR (nA (sR (nA G q2 0 298) x 0 (some q2)) q9 0 298) x 1 (some q9)) q16 0 2384) x 3 (some q16)) q23 0 298) x 5 (some q23)) q30 0 48) x 7 (some q30)) q37 0 25) x 10 (some q37)) q44 0 25) x 16 (some q44)) q51 0 576) x 17 (some q51)) q58 0 6) x 19 (some q58)) q65 0 6) x 20 (some q65)) q72 3 768) x 23 (some q72)) q79 3 60) x 25 (some q79)) q86 0 4) x 29 (some q86)) a94) (0 : Int32).toNatClampNeg (2 : Int32).toNatClampNeg (8 : Int32).toNatClampNeg)) → Q none H101)) : GW Γ l mX2_init h MC MS Q 0 [(0, va_rf (some x))] [] G bc bs := by
  refine g_aload_n dX2_init_0 rfl 0 rfl ?_
  obtain ⟨k1, F⟩ := F
  refine h_objInit q1985 q152 q153 rfl dX2_init_1 k1 (room_of sc_nil (Nat.le_of_ble_eq_true rfl)) ?_
  refine g_aload_n dX2_init_4 rfl 0 rfl ?_
  refine g_sipush (v := 298) dX2_init_5 (by decide) ?_
  obtain ⟨k3, F⟩ := F
  obtain ⟨k4, F⟩ := F
  refine g_newa (atype := .int) 0 298 (by decide) rfl q199 (by decide) (by decide) (Nat.le_of_ble_eq_true rfl) k3 k4 dX2_init_8 (fun q2 z5 z5' => ?_)
  have F := F q2 z5 z5'
  obtain ⟨c7, F⟩ := F
  obtain ⟨m8, F⟩ := F
  refine h_putR (mi := mX2_init) 1 0 (C := RX2) (T := TX2) (N := 30) rfl in_X2 tyX2_ok nmX2 (by decide) q1989 (Or.inl rfl) (Or.inr ⟨rfl, rfl⟩) rfl rfl rfl c7 m8 dX2_init_10 ?_
  refine g_aload_n dX2_init_13 rfl 0 rfl ?_
  refine g_sipush (v := 298) dX2_init_14 (by decide) ?_
  obtain ⟨k10, F⟩ := F
  obtain ⟨k11, F⟩ := F
  refine g_newa (atype := .int) 0 298 (by decide) rfl q199 (by decide) (by decide) (Nat.le_of_ble_eq_true rfl) k10 k11 dX2_init_17 (fun q9 z12 z12' => ?_)
  have F := F q9 z12 z12'
  obtain ⟨c14, F⟩ := F
  obtain ⟨m15, F⟩ := F
  refine h_putR (mi := mX2_init) 1 1 (C := RX2) (T := TX2) (N := 30) rfl in_X2 tyX2_ok nmX2 (by decide) q1990 (Or.inl rfl) (Or.inr ⟨rfl, rfl⟩) rfl rfl rfl c14 m15 dX2_init_19 ?_
  refine g_aload_n dX2_init_22 rfl 0 rfl ?_
  refine g_sipush (v := 2384) dX2_init_23 (by decide) ?_
  obtain ⟨k17, F⟩ := F
  obtain ⟨k18, F⟩ := F
  refine g_newa (atype := .int) 0 2384 (by decide) rfl q199 (by decide) (by decide) (Nat.le_of_ble_eq_true rfl) k17 k18 dX2_init_26 (fun q16 z19 z19' => ?_)
  have F := F q16 z19 z19'
  obtain ⟨c21, F⟩ := F
  obtain ⟨m22, F⟩ := F
  refine h_putR (mi := mX2_init) 1 3 (C := RX2) (T := TX2) (N := 30) rfl in_X2 tyX2_ok nmX2 (by decide) q1992 (Or.inl rfl) (Or.inr ⟨rfl, rfl⟩) rfl rfl rfl c21 m22 dX2_init_28 ?_
  refine g_aload_n dX2_init_31 rfl 0 rfl ?_
  refine g_sipush (v := 298) dX2_init_32 (by decide) ?_
  obtain ⟨k24, F⟩ := F
  obtain ⟨k25, F⟩ := F
  refine g_newa (atype := .int) 0 298 (by decide) rfl q199 (by decide) (by decide) (Nat.le_of_ble_eq_true rfl) k24 k25 dX2_init_35 (fun q23 z26 z26' => ?_)
  have F := F q23 z26 z26'
  obtain ⟨c28, F⟩ := F
  obtain ⟨m29, F⟩ := F
  refine h_putR (mi := mX2_init) 1 5 (C := RX2) (T := TX2) (N := 30) rfl in_X2 tyX2_ok nmX2 (by decide) q1994 (Or.inl rfl) (Or.inr ⟨rfl, rfl⟩) rfl rfl rfl c28 m29 dX2_init_37 ?_
  refine g_aload_n dX2_init_40 rfl 0 rfl ?_
  refine g_bipush (v := 48) dX2_init_41 (by decide) ?_
  obtain ⟨k31, F⟩ := F
  obtain ⟨k32, F⟩ := F
  refine g_newa (atype := .int) 0 48 (by decide) rfl q199 (by decide) (by decide) (Nat.le_of_ble_eq_true rfl) k31 k32 dX2_init_43 (fun q30 z33 z33' => ?_)
  have F := F q30 z33 z33'
  obtain ⟨c35, F⟩ := F
  obtain ⟨m36, F⟩ := F
  refine h_putR (mi := mX2_init) 1 7 (C := RX2) (T := TX2) (N := 30) rfl in_X2 tyX2_ok nmX2 (by decide) q1996 (Or.inl rfl) (Or.inr ⟨rfl, rfl⟩) rfl rfl rfl c35 m36 dX2_init_45 ?_
  refine g_aload_n dX2_init_48 rfl 0 rfl ?_
  refine g_bipush (v := 25) dX2_init_49 (by decide) ?_
  obtain ⟨k38, F⟩ := F
  obtain ⟨k39, F⟩ := F
  refine g_newa (atype := .int) 0 25 (by decide) rfl q199 (by decide) (by decide) (Nat.le_of_ble_eq_true rfl) k38 k39 dX2_init_51 (fun q37 z40 z40' => ?_)
  have F := F q37 z40 z40'
  obtain ⟨c42, F⟩ := F
  obtain ⟨m43, F⟩ := F
  refine h_putR (mi := mX2_init) 1 10 (C := RX2) (T := TX2) (N := 30) rfl in_X2 tyX2_ok nmX2 (by decide) q1999 (Or.inl rfl) (Or.inr ⟨rfl, rfl⟩) rfl rfl rfl c42 m43 dX2_init_53 ?_
  refine g_aload_n dX2_init_56 rfl 0 rfl ?_
  refine g_bipush (v := 25) dX2_init_57 (by decide) ?_
  obtain ⟨k45, F⟩ := F
  obtain ⟨k46, F⟩ := F
  refine g_newa (atype := .int) 0 25 (by decide) rfl q199 (by decide) (by decide) (Nat.le_of_ble_eq_true rfl) k45 k46 dX2_init_59 (fun q44 z47 z47' => ?_)
  have F := F q44 z47 z47'
  obtain ⟨c49, F⟩ := F
  obtain ⟨m50, F⟩ := F
  refine h_putR (mi := mX2_init) 1 16 (C := RX2) (T := TX2) (N := 30) rfl in_X2 tyX2_ok nmX2 (by decide) q2005 (Or.inl rfl) (Or.inr ⟨rfl, rfl⟩) rfl rfl rfl c49 m50 dX2_init_61 ?_
  refine g_aload_n dX2_init_64 rfl 0 rfl ?_
  refine g_sipush (v := 576) dX2_init_65 (by decide) ?_
  obtain ⟨k52, F⟩ := F
  obtain ⟨k53, F⟩ := F
  refine g_newa (atype := .int) 0 576 (by decide) rfl q199 (by decide) (by decide) (Nat.le_of_ble_eq_true rfl) k52 k53 dX2_init_68 (fun q51 z54 z54' => ?_)
  have F := F q51 z54 z54'
  obtain ⟨c56, F⟩ := F
  obtain ⟨m57, F⟩ := F
  refine h_putR (mi := mX2_init) 1 17 (C := RX2) (T := TX2) (N := 30) rfl in_X2 tyX2_ok nmX2 (by decide) q2006 (Or.inl rfl) (Or.inr ⟨rfl, rfl⟩) rfl rfl rfl c56 m57 dX2_init_70 ?_
  refine g_aload_n dX2_init_73 rfl 0 rfl ?_
  refine g_bipush (v := 6) dX2_init_74 (by decide) ?_
  obtain ⟨k59, F⟩ := F
  obtain ⟨k60, F⟩ := F
  refine g_newa (atype := .int) 0 6 (by decide) rfl q199 (by decide) (by decide) (Nat.le_of_ble_eq_true rfl) k59 k60 dX2_init_76 (fun q58 z61 z61' => ?_)
  have F := F q58 z61 z61'
  obtain ⟨c63, F⟩ := F
  obtain ⟨m64, F⟩ := F
  refine h_putR (mi := mX2_init) 1 19 (C := RX2) (T := TX2) (N := 30) rfl in_X2 tyX2_ok nmX2 (by decide) q2008 (Or.inl rfl) (Or.inr ⟨rfl, rfl⟩) rfl rfl rfl c63 m64 dX2_init_78 ?_
  refine g_aload_n dX2_init_81 rfl 0 rfl ?_
  refine g_bipush (v := 6) dX2_init_82 (by decide) ?_
  obtain ⟨k66, F⟩ := F
  obtain ⟨k67, F⟩ := F
  refine g_newa (atype := .int) 0 6 (by decide) rfl q199 (by decide) (by decide) (Nat.le_of_ble_eq_true rfl) k66 k67 dX2_init_84 (fun q65 z68 z68' => ?_)
  have F := F q65 z68 z68'
  obtain ⟨c70, F⟩ := F
  obtain ⟨m71, F⟩ := F
  refine h_putR (mi := mX2_init) 1 20 (C := RX2) (T := TX2) (N := 30) rfl in_X2 tyX2_ok nmX2 (by decide) q2009 (Or.inl rfl) (Or.inr ⟨rfl, rfl⟩) rfl rfl rfl c70 m71 dX2_init_86 ?_
  refine g_aload_n dX2_init_89 rfl 0 rfl ?_
  refine g_sipush (v := 768) dX2_init_90 (by decide) ?_
  obtain ⟨k73, F⟩ := F
  obtain ⟨k74, F⟩ := F
  refine g_newa (atype := .char) 3 768 (by decide) rfl q2080 (by decide) (by decide) (Nat.le_of_ble_eq_true rfl) k73 k74 dX2_init_93 (fun q72 z75 z75' => ?_)
  have F := F q72 z75 z75'
  obtain ⟨c77, F⟩ := F
  obtain ⟨m78, F⟩ := F
  refine h_putR (mi := mX2_init) 1 23 (C := RX2) (T := TX2) (N := 30) rfl in_X2 tyX2_ok nmX2 (by decide) q2012 (Or.inl rfl) (Or.inr ⟨rfl, rfl⟩) rfl rfl rfl c77 m78 dX2_init_95 ?_
  refine g_aload_n dX2_init_98 rfl 0 rfl ?_
  refine g_bipush (v := 60) dX2_init_99 (by decide) ?_
  obtain ⟨k80, F⟩ := F
  obtain ⟨k81, F⟩ := F
  refine g_newa (atype := .char) 3 60 (by decide) rfl q2080 (by decide) (by decide) (Nat.le_of_ble_eq_true rfl) k80 k81 dX2_init_101 (fun q79 z82 z82' => ?_)
  have F := F q79 z82 z82'
  obtain ⟨c84, F⟩ := F
  obtain ⟨m85, F⟩ := F
  refine h_putR (mi := mX2_init) 1 25 (C := RX2) (T := TX2) (N := 30) rfl in_X2 tyX2_ok nmX2 (by decide) q2014 (Or.inl rfl) (Or.inr ⟨rfl, rfl⟩) rfl rfl rfl c84 m85 dX2_init_103 ?_
  refine g_aload_n dX2_init_106 rfl 0 rfl ?_
  refine g_iconst (v := 4) dX2_init_107 (by decide) ?_
  obtain ⟨k87, F⟩ := F
  obtain ⟨k88, F⟩ := F
  refine g_newa (atype := .int) 0 4 (by decide) rfl q199 (by decide) (by decide) (Nat.le_of_ble_eq_true rfl) k87 k88 dX2_init_108 (fun q86 z89 z89' => ?_)
  have F := F q86 z89 z89'
  obtain ⟨c91, F⟩ := F
  obtain ⟨m92, F⟩ := F
  refine h_putR (mi := mX2_init) 1 29 (C := RX2) (T := TX2) (N := 30) rfl in_X2 tyX2_ok nmX2 (by decide) q2018 (Or.inl rfl) (Or.inr ⟨rfl, rfl⟩) rfl rfl rfl c91 m92 dX2_init_110 ?_
  refine g_getsr (C := "CrewPairerModel") (n := "FIRST") (d := "[I") (i := 6) (by decide) q1986 rfl dX2_init_113 ?_
  refine g_iconst (v := 0) dX2_init_116 (by decide) ?_
  refine g_aload_n dX2_init_117 rfl 0 rfl ?_
  refine h_get (v := va_rf (gR (sR (nA (sR (nA (sR (nA (sR (nA (sR (nA (sR (nA (sR (nA (sR (nA (sR (nA (sR (nA (sR (nA (sR (nA (sR (nA G q2 0 298) x 0 (some q2)) q9 0 298) x 1 (some q9)) q16 0 2384) x 3 (some q16)) q23 0 298) x 5 (some q23)) q30 0 48) x 7 (some q30)) q37 0 25) x 10 (some q37)) q44 0 25) x 16 (some q44)) q51 0 576) x 17 (some q51)) q58 0 6) x 19 (some q58)) q65 0 6) x 20 (some q65)) q72 3 768) x 23 (some q72)) q79 3 60) x 25 (some q79)) q86 0 4) x 29 (some q86)) x 0)) 1 0 (C := RX2) (T := TX2) (N := 30) rfl in_X2 (by decide) q1989 (Or.inl rfl) rfl c91 rfl dX2_init_118 ?_
  refine g_iconst (v := 2) dX2_init_121 (by decide) ?_
  refine g_bipush (v := 8) dX2_init_122 (by decide) ?_
  obtain ⟨c93, F⟩ := F
  obtain ⟨a94, e95, F⟩ := F
  obtain ⟨c96, F⟩ := F
  obtain ⟨m97, F⟩ := F
  obtain ⟨k98, F⟩ := F
  obtain ⟨k99, F⟩ := F
  obtain ⟨k100, F⟩ := F
  refine h_copyc q1988 q439 q438 q118 c93 e95 c96 m97 (by decide) (by decide) (by decide) k98 k99 k100 (room_of sc_nil (Nat.le_of_ble_eq_true rfl)) dX2_init_124 ?_
  obtain ⟨H101, h102⟩ : ∃ g : GH, g = (wI (sR (nA (sR (nA (sR (nA (sR (nA (sR (nA (sR (nA (sR (nA (sR (nA (sR (nA (sR (nA (sR (nA (sR (nA (sR (nA G q2 0 298) x 0 (some q2)) q9 0 298) x 1 (some q9)) q16 0 2384) x 3 (some q16)) q23 0 298) x 5 (some q23)) q30 0 48) x 7 (some q30)) q37 0 25) x 10 (some q37)) q44 0 25) x 16 (some q44)) q51 0 576) x 17 (some q51)) q58 0 6) x 19 (some q58)) q65 0 6) x 20 (some q65)) q72 3 768) x 23 (some q72)) q79 3 60) x 25 (some q79)) q86 0 4) x 29 (some q86)) a94 (va_cpy (gI (sR (nA (sR (nA (sR (nA (sR (nA (sR (nA (sR (nA (sR (nA (sR (nA (sR (nA (sR (nA (sR (nA (sR (nA (sR (nA G q2 0 298) x 0 (some q2)) q9 0 298) x 1 (some q9)) q16 0 2384) x 3 (some q16)) q23 0 298) x 5 (some q23)) q30 0 48) x 7 (some q30)) q37 0 25) x 10 (some q37)) q44 0 25) x 16 (some q44)) q51 0 576) x 17 (some q51)) q58 0 6) x 19 (some q58)) q65 0 6) x 20 (some q65)) q72 3 768) x 23 (some q72)) q79 3 60) x 25 (some q79)) q86 0 4) x 29 (some q86)) (Γ.2.2.2 6)) (gI (sR (nA (sR (nA (sR (nA (sR (nA (sR (nA (sR (nA (sR (nA (sR (nA (sR (nA (sR (nA (sR (nA (sR (nA (sR (nA G q2 0 298) x 0 (some q2)) q9 0 298) x 1 (some q9)) q16 0 2384) x 3 (some q16)) q23 0 298) x 5 (some q23)) q30 0 48) x 7 (some q30)) q37 0 25) x 10 (some q37)) q44 0 25) x 16 (some q44)) q51 0 576) x 17 (some q51)) q58 0 6) x 19 (some q58)) q65 0 6) x 20 (some q65)) q72 3 768) x 23 (some q72)) q79 3 60) x 25 (some q79)) q86 0 4) x 29 (some q86)) a94) (0 : Int32).toNatClampNeg (2 : Int32).toNatClampNeg (8 : Int32).toNatClampNeg)) := ⟨_, rfl⟩
  rw [← h102]
  have F := F H101 h102
  exact g_vret rfl dX2_init_127 F
theorem rX2_addLeg_0 {Γ : GE} {l : Launch} {h MC MS : Nat} {Q : Option Value → GH → Prop} {bc bs : Nat} {G : GH} (x : Nat) (p1 : Int32) (p2 : Int32) (p3 : Int32) (p4 : Int32) (F : (cI Γ l h mX2_in [.int p1, .int 0, .int 5] G bc bs fun r1 Gr1 br1 sr1 => ((r1 = 0 → (GW Γ l mX2_addLeg h MC MS Q 39 [(0, va_rf (some x)), (1, .int p1), (2, .int p2), (3, .int p3), (4, .int p4)] [.int 0] Gr1 br1 sr1)) ∧ (¬ r1 = 0 → (cI Γ l h mX2_in [.int p2, .int 0, .int 5] Gr1 br1 sr1 fun r3 Gr3 br3 sr3 => ((r3 = 0 → (GW Γ l mX2_addLeg h MC MS Q 39 [(0, va_rf (some x)), (1, .int p1), (2, .int p2), (3, .int p3), (4, .int p4)] [.int 0] Gr3 br3 sr3)) ∧ (¬ r3 = 0 → ((p1 = p2 → (GW Γ l mX2_addLeg h MC MS Q 39 [(0, va_rf (some x)), (1, .int p1), (2, .int p2), (3, .int p3), (4, .int p4)] [.int 0] Gr3 br3 sr3)) ∧ (¬ p1 = p2 → (cI Γ l h mX2_in [.int p3, .int 0, .int 5999] Gr3 br3 sr3 fun r5 Gr5 br5 sr5 => ((r5 = 0 → (GW Γ l mX2_addLeg h MC MS Q 39 [(0, va_rf (some x)), (1, .int p1), (2, .int p2), (3, .int p3), (4, .int p4)] [.int 0] Gr5 br5 sr5)) ∧ (¬ r5 = 0 → (GW Γ l mX2_addLeg h MC MS Q 39 [(0, va_rf (some x)), (1, .int p1), (2, .int p2), (3, .int p3), (4, .int p4)] [.int 1] Gr5 br5 sr5))))))))))))) : GW Γ l mX2_addLeg h MC MS Q 0 [(0, va_rf (some x)), (1, .int p1), (2, .int p2), (3, .int p3), (4, .int p4)] [] G bc bs := by
  refine g_iload_n dX2_addLeg_0 rfl 1 rfl ?_
  refine g_iconst (v := 0) dX2_addLeg_1 (by decide) ?_
  refine g_iconst (v := 5) dX2_addLeg_2 (by decide) ?_
  refine h_callSI (As := [.int p1, .int 0, .int 5]) (rest := []) F 3 rfl (lw_S q2085 q2086 q117 q2087) vm_X2_in.2 (by decide) rfl (room_of sc_nil (Nat.le_of_ble_eq_true rfl)) dX2_addLeg_3 (fun r1 Gr1 br1 sr1 F => ?_)
  refine g_if_eq 38 dX2_addLeg_6 (by decide) (fun h10 => ?_) (fun h10 => ?_)
  · have F := F.1 h10
    refine g_iconst (v := 0) dX2_addLeg_38 (by decide) ?_
    exact F
  · have F := F.2 h10
    refine g_iload_n dX2_addLeg_9 rfl 2 rfl ?_
    refine g_iconst (v := 0) dX2_addLeg_10 (by decide) ?_
    refine g_iconst (v := 5) dX2_addLeg_11 (by decide) ?_
    refine h_callSI (As := [.int p2, .int 0, .int 5]) (rest := []) F 3 rfl (lw_S q2085 q2086 q117 q2087) vm_X2_in.2 (by decide) rfl (room_of sc_nil (Nat.le_of_ble_eq_true rfl)) dX2_addLeg_12 (fun r3 Gr3 br3 sr3 F => ?_)
    refine g_if_eq 38 dX2_addLeg_15 (by decide) (fun h9 => ?_) (fun h9 => ?_)
    · have F := F.1 h9
      refine g_iconst (v := 0) dX2_addLeg_38 (by decide) ?_
      exact F
    · have F := F.2 h9
      refine g_iload_n dX2_addLeg_18 rfl 1 rfl ?_
      refine g_iload_n dX2_addLeg_19 rfl 2 rfl ?_
      refine g_icmp_eq 38 dX2_addLeg_20 (by decide) (fun h8 => ?_) (fun h8 => ?_)
      · have F := F.1 h8
        refine g_iconst (v := 0) dX2_addLeg_38 (by decide) ?_
        exact F
      · have F := F.2 h8
        refine g_iload_n dX2_addLeg_23 rfl 3 rfl ?_
        refine g_iconst (v := 0) dX2_addLeg_24 (by decide) ?_
        refine g_sipush (v := 5999) dX2_addLeg_25 (by decide) ?_
        refine h_callSI (As := [.int p3, .int 0, .int 5999]) (rest := []) F 3 rfl (lw_S q2085 q2086 q117 q2087) vm_X2_in.2 (by decide) rfl (room_of sc_nil (Nat.le_of_ble_eq_true rfl)) dX2_addLeg_28 (fun r5 Gr5 br5 sr5 F => ?_)
        refine g_if_eq 38 dX2_addLeg_31 (by decide) (fun h7 => ?_) (fun h7 => ?_)
        · have F := F.1 h7
          refine g_iconst (v := 0) dX2_addLeg_38 (by decide) ?_
          exact F
        · have F := F.2 h7
          refine g_iconst (v := 1) dX2_addLeg_34 (by decide) ?_
          refine g_goto 39 dX2_addLeg_35 (by decide) ?_
          exact F
theorem rX2_addLeg_39 {Γ : GE} {l : Launch} {h MC MS : Nat} {Q : Option Value → GH → Prop} {bc bs : Nat} {G : GH} (x : Nat) (p1 : Int32) (p2 : Int32) (p3 : Int32) (p4 : Int32) (s0 : Int32) (F : ((s0 = 0 → (Q (some (.int (-1))) G)) ∧ (¬ s0 = 0 → (cI Γ l h mJ7_min [.int (p3 + 600), .int 5999] G bc bs fun r1 Gr1 br1 sr1 => cI Γ l h mX2_in [.int p4, .int (p3 + 1), .int r1] Gr1 br1 sr1 fun r3 Gr3 br3 sr3 => ((¬ r3 = 0 → (gC Gr3 x = kO 1 ∧ cI Γ l h mX2_isThere [.ref x, .int (-1), .int p1, .int p2, .int p3] Gr3 br3 sr3 fun r5 Gr5 br5 sr5 => ((r5 = 0 → (gC Gr5 x = kO 1 ∧ ∃ a9, (gR Gr5 x 0) = some a9 ∧ gC Gr5 a9 = kA 0 ∧ vp_in 0 (gL Gr5 a9) ∧ ((¬ (gI Gr5 a9 (0 : Int32).toNatClampNeg) = 24 → (cV Γ l h mX2_change [.ref x] Gr5 br5 sr5 fun Gr13 br13 sr13 => gC Gr13 x = kO 1 ∧ ∃ a16, (gR Gr13 x 0) = some a16 ∧ gC Gr13 a16 = kA 0 ∧ vp_in 0 (gL Gr13 a16) ∧ gM Gr13 a16 = true ∧ vp_in ((10 + (5 * (gI Gr13 a16 (0 : Int32).toNatClampNeg))) + 0) (gL Gr13 a16) ∧ ∃ a22, (gR (sI Gr13 a16 ((10 + (5 * (gI Gr13 a16 (0 : Int32).toNatClampNeg))) + 0).toNatClampNeg p1) x 0) = some a22 ∧ gC (sI Gr13 a16 ((10 + (5 * (gI Gr13 a16 (0 : Int32).toNatClampNeg))) + 0).toNatClampNeg p1) a22 = kA 0 ∧ gM (sI Gr13 a16 ((10 + (5 * (gI Gr13 a16 (0 : Int32).toNatClampNeg))) + 0).toNatClampNeg p1) a22 = true ∧ vp_in ((10 + (5 * (gI Gr13 a16 (0 : Int32).toNatClampNeg))) + 1) (gL (sI Gr13 a16 ((10 + (5 * (gI Gr13 a16 (0 : Int32).toNatClampNeg))) + 0).toNatClampNeg p1) a22) ∧ ∃ a27, (gR (sI (sI Gr13 a16 ((10 + (5 * (gI Gr13 a16 (0 : Int32).toNatClampNeg))) + 0).toNatClampNeg p1) a22 ((10 + (5 * (gI Gr13 a16 (0 : Int32).toNatClampNeg))) + 1).toNatClampNeg p2) x 0) = some a27 ∧ gC (sI (sI Gr13 a16 ((10 + (5 * (gI Gr13 a16 (0 : Int32).toNatClampNeg))) + 0).toNatClampNeg p1) a22 ((10 + (5 * (gI Gr13 a16 (0 : Int32).toNatClampNeg))) + 1).toNatClampNeg p2) a27 = kA 0 ∧ gM (sI (sI Gr13 a16 ((10 + (5 * (gI Gr13 a16 (0 : Int32).toNatClampNeg))) + 0).toNatClampNeg p1) a22 ((10 + (5 * (gI Gr13 a16 (0 : Int32).toNatClampNeg))) + 1).toNatClampNeg p2) a27 = true ∧ vp_in ((10 + (5 * (gI Gr13 a16 (0 : Int32).toNatClampNeg))) + 2) (gL (sI (sI Gr13 a16 ((10 + (5 * (gI Gr13 a16 (0 : Int32).toNatClampNeg))) + 0).toNatClampNeg p1) a22 ((10 + (5 * (gI Gr13 a16 (0 : Int32).toNatClampNeg))) + 1).toNatClampNeg p2) a27) ∧ ∃ a32, (gR (sI (sI (sI Gr13 a16 ((10 + (5 * (gI Gr13 a16 (0 : Int32).toNatClampNeg))) + 0).toNatClampNeg p1) a22 ((10 + (5 * (gI Gr13 a16 (0 : Int32).toNatClampNeg))) + 1).toNatClampNeg p2) a27 ((10 + (5 * (gI Gr13 a16 (0 : Int32).toNatClampNeg))) + 2).toNatClampNeg p3) x 0) = some a32 ∧ gC (sI (sI (sI Gr13 a16 ((10 + (5 * (gI Gr13 a16 (0 : Int32).toNatClampNeg))) + 0).toNatClampNeg p1) a22 ((10 + (5 * (gI Gr13 a16 (0 : Int32).toNatClampNeg))) + 1).toNatClampNeg p2) a27 ((10 + (5 * (gI Gr13 a16 (0 : Int32).toNatClampNeg))) + 2).toNatClampNeg p3) a32 = kA 0 ∧ gM (sI (sI (sI Gr13 a16 ((10 + (5 * (gI Gr13 a16 (0 : Int32).toNatClampNeg))) + 0).toNatClampNeg p1) a22 ((10 + (5 * (gI Gr13 a16 (0 : Int32).toNatClampNeg))) + 1).toNatClampNeg p2) a27 ((10 + (5 * (gI Gr13 a16 (0 : Int32).toNatClampNeg))) + 2).toNatClampNeg p3) a32 = true ∧ vp_in ((10 + (5 * (gI Gr13 a16 (0 : Int32).toNatClampNeg))) + 3) (gL (sI (sI (sI Gr13 a16 ((10 + (5 * (gI Gr13 a16 (0 : Int32).toNatClampNeg))) + 0).toNatClampNeg p1) a22 ((10 + (5 * (gI Gr13 a16 (0 : Int32).toNatClampNeg))) + 1).toNatClampNeg p2) a27 ((10 + (5 * (gI Gr13 a16 (0 : Int32).toNatClampNeg))) + 2).toNatClampNeg p3) a32) ∧ ∃ a37, (gR (sI (sI (sI (sI Gr13 a16 ((10 + (5 * (gI Gr13 a16 (0 : Int32).toNatClampNeg))) + 0).toNatClampNeg p1) a22 ((10 + (5 * (gI Gr13 a16 (0 : Int32).toNatClampNeg))) + 1).toNatClampNeg p2) a27 ((10 + (5 * (gI Gr13 a16 (0 : Int32).toNatClampNeg))) + 2).toNatClampNeg p3) a32 ((10 + (5 * (gI Gr13 a16 (0 : Int32).toNatClampNeg))) + 3).toNatClampNeg p4) x 0) = some a37 ∧ gC (sI (sI (sI (sI Gr13 a16 ((10 + (5 * (gI Gr13 a16 (0 : Int32).toNatClampNeg))) + 0).toNatClampNeg p1) a22 ((10 + (5 * (gI Gr13 a16 (0 : Int32).toNatClampNeg))) + 1).toNatClampNeg p2) a27 ((10 + (5 * (gI Gr13 a16 (0 : Int32).toNatClampNeg))) + 2).toNatClampNeg p3) a32 ((10 + (5 * (gI Gr13 a16 (0 : Int32).toNatClampNeg))) + 3).toNatClampNeg p4) a37 = kA 0 ∧ gM (sI (sI (sI (sI Gr13 a16 ((10 + (5 * (gI Gr13 a16 (0 : Int32).toNatClampNeg))) + 0).toNatClampNeg p1) a22 ((10 + (5 * (gI Gr13 a16 (0 : Int32).toNatClampNeg))) + 1).toNatClampNeg p2) a27 ((10 + (5 * (gI Gr13 a16 (0 : Int32).toNatClampNeg))) + 2).toNatClampNeg p3) a32 ((10 + (5 * (gI Gr13 a16 (0 : Int32).toNatClampNeg))) + 3).toNatClampNeg p4) a37 = true ∧ vp_in ((10 + (5 * (gI Gr13 a16 (0 : Int32).toNatClampNeg))) + 4) (gL (sI (sI (sI (sI Gr13 a16 ((10 + (5 * (gI Gr13 a16 (0 : Int32).toNatClampNeg))) + 0).toNatClampNeg p1) a22 ((10 + (5 * (gI Gr13 a16 (0 : Int32).toNatClampNeg))) + 1).toNatClampNeg p2) a27 ((10 + (5 * (gI Gr13 a16 (0 : Int32).toNatClampNeg))) + 2).toNatClampNeg p3) a32 ((10 + (5 * (gI Gr13 a16 (0 : Int32).toNatClampNeg))) + 3).toNatClampNeg p4) a37) ∧ ∃ a42, (gR (sI (sI (sI (sI (sI Gr13 a16 ((10 + (5 * (gI Gr13 a16 (0 : Int32).toNatClampNeg))) + 0).toNatClampNeg p1) a22 ((10 + (5 * (gI Gr13 a16 (0 : Int32).toNatClampNeg))) + 1).toNatClampNeg p2) a27 ((10 + (5 * (gI Gr13 a16 (0 : Int32).toNatClampNeg))) + 2).toNatClampNeg p3) a32 ((10 + (5 * (gI Gr13 a16 (0 : Int32).toNatClampNeg))) + 3).toNatClampNeg p4) a37 ((10 + (5 * (gI Gr13 a16 (0 : Int32).toNatClampNeg))) + 4).toNatClampNeg 0) x 0) = some a42 ∧ gC (sI (sI (sI (sI (sI Gr13 a16 ((10 + (5 * (gI Gr13 a16 (0 : Int32).toNatClampNeg))) + 0).toNatClampNeg p1) a22 ((10 + (5 * (gI Gr13 a16 (0 : Int32).toNatClampNeg))) + 1).toNatClampNeg p2) a27 ((10 + (5 * (gI Gr13 a16 (0 : Int32).toNatClampNeg))) + 2).toNatClampNeg p3) a32 ((10 + (5 * (gI Gr13 a16 (0 : Int32).toNatClampNeg))) + 3).toNatClampNeg p4) a37 ((10 + (5 * (gI Gr13 a16 (0 : Int32).toNatClampNeg))) + 4).toNatClampNeg 0) a42 = kA 0 ∧ vp_in 0 (gL (sI (sI (sI (sI (sI Gr13 a16 ((10 + (5 * (gI Gr13 a16 (0 : Int32).toNatClampNeg))) + 0).toNatClampNeg p1) a22 ((10 + (5 * (gI Gr13 a16 (0 : Int32).toNatClampNeg))) + 1).toNatClampNeg p2) a27 ((10 + (5 * (gI Gr13 a16 (0 : Int32).toNatClampNeg))) + 2).toNatClampNeg p3) a32 ((10 + (5 * (gI Gr13 a16 (0 : Int32).toNatClampNeg))) + 3).toNatClampNeg p4) a37 ((10 + (5 * (gI Gr13 a16 (0 : Int32).toNatClampNeg))) + 4).toNatClampNeg 0) a42) ∧ gM (sI (sI (sI (sI (sI Gr13 a16 ((10 + (5 * (gI Gr13 a16 (0 : Int32).toNatClampNeg))) + 0).toNatClampNeg p1) a22 ((10 + (5 * (gI Gr13 a16 (0 : Int32).toNatClampNeg))) + 1).toNatClampNeg p2) a27 ((10 + (5 * (gI Gr13 a16 (0 : Int32).toNatClampNeg))) + 2).toNatClampNeg p3) a32 ((10 + (5 * (gI Gr13 a16 (0 : Int32).toNatClampNeg))) + 3).toNatClampNeg p4) a37 ((10 + (5 * (gI Gr13 a16 (0 : Int32).toNatClampNeg))) + 4).toNatClampNeg 0) a42 = true ∧ vp_in 0 (gL (sI (sI (sI (sI (sI Gr13 a16 ((10 + (5 * (gI Gr13 a16 (0 : Int32).toNatClampNeg))) + 0).toNatClampNeg p1) a22 ((10 + (5 * (gI Gr13 a16 (0 : Int32).toNatClampNeg))) + 1).toNatClampNeg p2) a27 ((10 + (5 * (gI Gr13 a16 (0 : Int32).toNatClampNeg))) + 2).toNatClampNeg p3) a32 ((10 + (5 * (gI Gr13 a16 (0 : Int32).toNatClampNeg))) + 3).toNatClampNeg p4) a37 ((10 + (5 * (gI Gr13 a16 (0 : Int32).toNatClampNeg))) + 4).toNatClampNeg 0) a42) ∧ ∃ a48, (gR (sI (sI (sI (sI (sI (sI Gr13 a16 ((10 + (5 * (gI Gr13 a16 (0 : Int32).toNatClampNeg))) + 0).toNatClampNeg p1) a22 ((10 + (5 * (gI Gr13 a16 (0 : Int32).toNatClampNeg))) + 1).toNatClampNeg p2) a27 ((10 + (5 * (gI Gr13 a16 (0 : Int32).toNatClampNeg))) + 2).toNatClampNeg p3) a32 ((10 + (5 * (gI Gr13 a16 (0 : Int32).toNatClampNeg))) + 3).toNatClampNeg p4) a37 ((10 + (5 * (gI Gr13 a16 (0 : Int32).toNatClampNeg))) + 4).toNatClampNeg 0) a42 (0 : Int32).toNatClampNeg ((gI (sI (sI (sI (sI (sI Gr13 a16 ((10 + (5 * (gI Gr13 a16 (0 : Int32).toNatClampNeg))) + 0).toNatClampNeg p1) a22 ((10 + (5 * (gI Gr13 a16 (0 : Int32).toNatClampNeg))) + 1).toNatClampNeg p2) a27 ((10 + (5 * (gI Gr13 a16 (0 : Int32).toNatClampNeg))) + 2).toNatClampNeg p3) a32 ((10 + (5 * (gI Gr13 a16 (0 : Int32).toNatClampNeg))) + 3).toNatClampNeg p4) a37 ((10 + (5 * (gI Gr13 a16 (0 : Int32).toNatClampNeg))) + 4).toNatClampNeg 0) a42 (0 : Int32).toNatClampNeg) + 1)) x 0) = some a48 ∧ gC (sI (sI (sI (sI (sI (sI Gr13 a16 ((10 + (5 * (gI Gr13 a16 (0 : Int32).toNatClampNeg))) + 0).toNatClampNeg p1) a22 ((10 + (5 * (gI Gr13 a16 (0 : Int32).toNatClampNeg))) + 1).toNatClampNeg p2) a27 ((10 + (5 * (gI Gr13 a16 (0 : Int32).toNatClampNeg))) + 2).toNatClampNeg p3) a32 ((10 + (5 * (gI Gr13 a16 (0 : Int32).toNatClampNeg))) + 3).toNatClampNeg p4) a37 ((10 + (5 * (gI Gr13 a16 (0 : Int32).toNatClampNeg))) + 4).toNatClampNeg 0) a42 (0 : Int32).toNatClampNeg ((gI (sI (sI (sI (sI (sI Gr13 a16 ((10 + (5 * (gI Gr13 a16 (0 : Int32).toNatClampNeg))) + 0).toNatClampNeg p1) a22 ((10 + (5 * (gI Gr13 a16 (0 : Int32).toNatClampNeg))) + 1).toNatClampNeg p2) a27 ((10 + (5 * (gI Gr13 a16 (0 : Int32).toNatClampNeg))) + 2).toNatClampNeg p3) a32 ((10 + (5 * (gI Gr13 a16 (0 : Int32).toNatClampNeg))) + 3).toNatClampNeg p4) a37 ((10 + (5 * (gI Gr13 a16 (0 : Int32).toNatClampNeg))) + 4).toNatClampNeg 0) a42 (0 : Int32).toNatClampNeg) + 1)) a48 = kA 0 ∧ vp_in 0 (gL (sI (sI (sI (sI (sI (sI Gr13 a16 ((10 + (5 * (gI Gr13 a16 (0 : Int32).toNatClampNeg))) + 0).toNatClampNeg p1) a22 ((10 + (5 * (gI Gr13 a16 (0 : Int32).toNatClampNeg))) + 1).toNatClampNeg p2) a27 ((10 + (5 * (gI Gr13 a16 (0 : Int32).toNatClampNeg))) + 2).toNatClampNeg p3) a32 ((10 + (5 * (gI Gr13 a16 (0 : Int32).toNatClampNeg))) + 3).toNatClampNeg p4) a37 ((10 + (5 * (gI Gr13 a16 (0 : Int32).toNatClampNeg))) + 4).toNatClampNeg 0) a42 (0 : Int32).toNatClampNeg ((gI (sI (sI (sI (sI (sI Gr13 a16 ((10 + (5 * (gI Gr13 a16 (0 : Int32).toNatClampNeg))) + 0).toNatClampNeg p1) a22 ((10 + (5 * (gI Gr13 a16 (0 : Int32).toNatClampNeg))) + 1).toNatClampNeg p2) a27 ((10 + (5 * (gI Gr13 a16 (0 : Int32).toNatClampNeg))) + 2).toNatClampNeg p3) a32 ((10 + (5 * (gI Gr13 a16 (0 : Int32).toNatClampNeg))) + 3).toNatClampNeg p4) a37 ((10 + (5 * (gI Gr13 a16 (0 : Int32).toNatClampNeg))) + 4).toNatClampNeg 0) a42 (0 : Int32).toNatClampNeg) + 1)) a48) ∧ Q (some (.int ((gI (sI (sI (sI (sI (sI (sI Gr13 a16 ((10 + (5 * (gI Gr13 a16 (0 : Int32).toNatClampNeg))) + 0).toNatClampNeg p1) a22 ((10 + (5 * (gI Gr13 a16 (0 : Int32).toNatClampNeg))) + 1).toNatClampNeg p2) a27 ((10 + (5 * (gI Gr13 a16 (0 : Int32).toNatClampNeg))) + 2).toNatClampNeg p3) a32 ((10 + (5 * (gI Gr13 a16 (0 : Int32).toNatClampNeg))) + 3).toNatClampNeg p4) a37 ((10 + (5 * (gI Gr13 a16 (0 : Int32).toNatClampNeg))) + 4).toNatClampNeg 0) a42 (0 : Int32).toNatClampNeg ((gI (sI (sI (sI (sI (sI Gr13 a16 ((10 + (5 * (gI Gr13 a16 (0 : Int32).toNatClampNeg))) + 0).toNatClampNeg p1) a22 ((10 + (5 * (gI Gr13 a16 (0 : Int32).toNatClampNeg))) + 1).toNatClampNeg p2) a27 ((10 + (5 * (gI Gr13 a16 (0 : Int32).toNatClampNeg))) + 2).toNatClampNeg p3) a32 ((10 + (5 * (gI Gr13 a16 (0 : Int32).toNatClampNeg))) + 3).toNatClampNeg p4) a37 ((10 + (5 * (gI Gr13 a16 (0 : Int32).toNatClampNeg))) + 4).toNatClampNeg 0) a42 (0 : Int32).toNatClampNeg) + 1)) a48 (0 : Int32).toNatClampNeg) - 1))) (sI (sI (sI (sI (sI (sI Gr13 a16 ((10 + (5 * (gI Gr13 a16 (0 : Int32).toNatClampNeg))) + 0).toNatClampNeg p1) a22 ((10 + (5 * (gI Gr13 a16 (0 : Int32).toNatClampNeg))) + 1).toNatClampNeg p2) a27 ((10 + (5 * (gI Gr13 a16 (0 : Int32).toNatClampNeg))) + 2).toNatClampNeg p3) a32 ((10 + (5 * (gI Gr13 a16 (0 : Int32).toNatClampNeg))) + 3).toNatClampNeg p4) a37 ((10 + (5 * (gI Gr13 a16 (0 : Int32).toNatClampNeg))) + 4).toNatClampNeg 0) a42 (0 : Int32).toNatClampNeg ((gI (sI (sI (sI (sI (sI Gr13 a16 ((10 + (5 * (gI Gr13 a16 (0 : Int32).toNatClampNeg))) + 0).toNatClampNeg p1) a22 ((10 + (5 * (gI Gr13 a16 (0 : Int32).toNatClampNeg))) + 1).toNatClampNeg p2) a27 ((10 + (5 * (gI Gr13 a16 (0 : Int32).toNatClampNeg))) + 2).toNatClampNeg p3) a32 ((10 + (5 * (gI Gr13 a16 (0 : Int32).toNatClampNeg))) + 3).toNatClampNeg p4) a37 ((10 + (5 * (gI Gr13 a16 (0 : Int32).toNatClampNeg))) + 4).toNatClampNeg 0) a42 (0 : Int32).toNatClampNeg) + 1)))) ∧ ((gI Gr5 a9 (0 : Int32).toNatClampNeg) = 24 → (Q (some (.int (-3))) Gr5))))) ∧ (¬ r5 = 0 → (Q (some (.int (-4))) Gr5))))) ∧ (r3 = 0 → (Q (some (.int (-1))) Gr3))))))) : GW Γ l mX2_addLeg h MC MS Q 39 [(0, va_rf (some x)), (1, .int p1), (2, .int p2), (3, .int p3), (4, .int p4)] [.int s0] G bc bs := by
  refine s_istore (lv' := [(0, va_rf (some x)), (1, .int p1), (2, .int p2), (3, .int p3), (4, .int p4), (5, .int s0)]) (cat_R (cat_I (cat_I (cat_I (cat_I cat_nil))))) dX2_addLeg_39 (by decide) rfl [1, 2, 3, 4, 5, 0] rfl ?_
  refine g_iload dX2_addLeg_41 5 rfl ?_
  refine g_if_eq 68 dX2_addLeg_43 (by decide) (fun h55 => ?_) (fun h55 => ?_)
  · have F := F.1 h55
    refine g_iconst (v := (-1)) dX2_addLeg_68 (by decide) ?_
    exact g_iret rfl dX2_addLeg_69 F
  · have F := F.2 h55
    refine g_iload dX2_addLeg_46 4 rfl ?_
    refine g_iload_n dX2_addLeg_48 rfl 3 rfl ?_
    refine g_iconst (v := 1) dX2_addLeg_49 (by decide) ?_
    refine g_iadd dX2_addLeg_50 ?_
    refine g_iload_n dX2_addLeg_51 rfl 3 rfl ?_
    refine g_sipush (v := 600) dX2_addLeg_52 (by decide) ?_
    refine g_iadd dX2_addLeg_55 ?_
    refine g_sipush (v := 5999) dX2_addLeg_56 (by decide) ?_
    refine h_callSI (As := [.int (p3 + 600), .int 5999]) (rest := [.int (p3 + 1), .int p4]) F 2 rfl (lw_S q2088 q435 q119 q436) vm_J7_min.2 (by decide) rfl (room_of (sc_I (sc_I sc_nil)) (Nat.le_of_ble_eq_true rfl)) dX2_addLeg_59 (fun r1 Gr1 br1 sr1 F => ?_)
    refine h_callSI (As := [.int p4, .int (p3 + 1), .int r1]) (rest := []) F 3 rfl (lw_S q2085 q2086 q117 q2087) vm_X2_in.2 (by decide) rfl (room_of sc_nil (Nat.le_of_ble_eq_true rfl)) dX2_addLeg_62 (fun r3 Gr3 br3 sr3 F => ?_)
    refine g_if_ne 70 dX2_addLeg_65 (by decide) (fun h54 => ?_) (fun h54 => ?_)
    · have F := F.1 h54
      refine g_aload_n dX2_addLeg_70 rfl 0 rfl ?_
      refine g_iconst (v := (-1)) dX2_addLeg_71 (by decide) ?_
      refine g_iload_n dX2_addLeg_72 rfl 1 rfl ?_
      refine g_iload_n dX2_addLeg_73 rfl 2 rfl ?_
      refine g_iload_n dX2_addLeg_74 rfl 3 rfl ?_
      obtain ⟨c6, F⟩ := F
      refine h_callVI (ci := 1) (C := RX2) (T := TX2) (N := 30) (As := [.int (-1), .int p1, .int p2, .int p3]) (rest := []) F 4 rfl rfl (lw_V q2089 q2091 qs53 q117 q2092) vm_X2_isThere (by decide) rfl c6 rfl (room_of sc_nil (Nat.le_of_ble_eq_true rfl)) dX2_addLeg_75 (fun r5 Gr5 br5 sr5 F => ?_)
      refine g_if_eq 84 dX2_addLeg_78 (by decide) (fun h53 => ?_) (fun h53 => ?_)
      · have F := F.1 h53
        refine g_aload_n dX2_addLeg_84 rfl 0 rfl ?_
        obtain ⟨c8, F⟩ := F
        refine h_get (v := va_rf (gR Gr5 x 0)) 1 0 (C := RX2) (T := TX2) (N := 30) rfl in_X2 (by decide) q1989 (Or.inl rfl) rfl c8 rfl dX2_addLeg_85 ?_
        refine g_iconst (v := 0) dX2_addLeg_88 (by decide) ?_
        obtain ⟨a9, e10, F⟩ := F
        obtain ⟨c11, F⟩ := F
        obtain ⟨k12, F⟩ := F
        refine h_iald e10 c11 k12 dX2_addLeg_89 ?_
        refine g_bipush (v := 24) dX2_addLeg_90 (by decide) ?_
        refine g_icmp_ne 98 dX2_addLeg_92 (by decide) (fun h52 => ?_) (fun h52 => ?_)
        · have F := F.1 h52
          refine g_aload_n dX2_addLeg_98 rfl 0 rfl ?_
          refine h_callVV (ci := 1) (C := RX2) (T := TX2) (N := 30) (As := []) (rest := []) F 0 rfl rfl (lw_V q2097 q2099 qs55 q117 q2100) vm_X2_change (by decide) rfl c8 rfl (room_of sc_nil (Nat.le_of_ble_eq_true rfl)) dX2_addLeg_99 (fun Gr13 br13 sr13 F => ?_)
          refine g_bipush (v := 10) dX2_addLeg_102 (by decide) ?_
          refine g_iconst (v := 5) dX2_addLeg_104 (by decide) ?_
          refine g_aload_n dX2_addLeg_105 rfl 0 rfl ?_
          obtain ⟨c15, F⟩ := F
          refine h_get (v := va_rf (gR Gr13 x 0)) 1 0 (C := RX2) (T := TX2) (N := 30) rfl in_X2 (by decide) q1989 (Or.inl rfl) rfl c15 rfl dX2_addLeg_106 ?_
          refine g_iconst (v := 0) dX2_addLeg_109 (by decide) ?_
          obtain ⟨a16, e17, F⟩ := F
          obtain ⟨c18, F⟩ := F
          obtain ⟨k19, F⟩ := F
          refine h_iald e17 c18 k19 dX2_addLeg_110 ?_
          refine g_imul dX2_addLeg_111 ?_
          refine g_iadd dX2_addLeg_112 ?_
          refine s_istore (lv' := [(0, va_rf (some x)), (1, .int p1), (2, .int p2), (3, .int p3), (4, .int p4), (5, .int s0), (6, .int (10 + (5 * (gI Gr13 a16 (0 : Int32).toNatClampNeg))))]) (cat_R (cat_I (cat_I (cat_I (cat_I (cat_I cat_nil)))))) dX2_addLeg_113 (by decide) rfl [1, 2, 3, 4, 5, 6, 0] rfl ?_
          refine g_aload_n dX2_addLeg_115 rfl 0 rfl ?_
          refine h_get (v := va_rf (gR Gr13 x 0)) 1 0 (C := RX2) (T := TX2) (N := 30) rfl in_X2 (by decide) q1989 (Or.inl rfl) rfl c15 rfl dX2_addLeg_116 ?_
          refine g_iload dX2_addLeg_119 6 rfl ?_
          refine g_iconst (v := 0) dX2_addLeg_121 (by decide) ?_
          refine g_iadd dX2_addLeg_122 ?_
          refine g_iload_n dX2_addLeg_123 rfl 1 rfl ?_
          obtain ⟨m20, F⟩ := F
          obtain ⟨k21, F⟩ := F
          refine h_iast e17 c18 m20 k21 dX2_addLeg_124 ?_
          refine g_aload_n dX2_addLeg_125 rfl 0 rfl ?_
          refine h_get (v := va_rf (gR (sI Gr13 a16 ((10 + (5 * (gI Gr13 a16 (0 : Int32).toNatClampNeg))) + 0).toNatClampNeg p1) x 0)) 1 0 (C := RX2) (T := TX2) (N := 30) rfl in_X2 (by decide) q1989 (Or.inl rfl) rfl c15 rfl dX2_addLeg_126 ?_
          refine g_iload dX2_addLeg_129 6 rfl ?_
          refine g_iconst (v := 1) dX2_addLeg_131 (by decide) ?_
          refine g_iadd dX2_addLeg_132 ?_
          refine g_iload_n dX2_addLeg_133 rfl 2 rfl ?_
          obtain ⟨a22, e23, F⟩ := F
          obtain ⟨c24, F⟩ := F
          obtain ⟨m25, F⟩ := F
          obtain ⟨k26, F⟩ := F
          refine h_iast e23 c24 m25 k26 dX2_addLeg_134 ?_
          refine g_aload_n dX2_addLeg_135 rfl 0 rfl ?_
          refine h_get (v := va_rf (gR (sI (sI Gr13 a16 ((10 + (5 * (gI Gr13 a16 (0 : Int32).toNatClampNeg))) + 0).toNatClampNeg p1) a22 ((10 + (5 * (gI Gr13 a16 (0 : Int32).toNatClampNeg))) + 1).toNatClampNeg p2) x 0)) 1 0 (C := RX2) (T := TX2) (N := 30) rfl in_X2 (by decide) q1989 (Or.inl rfl) rfl c15 rfl dX2_addLeg_136 ?_
          refine g_iload dX2_addLeg_139 6 rfl ?_
          refine g_iconst (v := 2) dX2_addLeg_141 (by decide) ?_
          refine g_iadd dX2_addLeg_142 ?_
          refine g_iload_n dX2_addLeg_143 rfl 3 rfl ?_
          obtain ⟨a27, e28, F⟩ := F
          obtain ⟨c29, F⟩ := F
          obtain ⟨m30, F⟩ := F
          obtain ⟨k31, F⟩ := F
          refine h_iast e28 c29 m30 k31 dX2_addLeg_144 ?_
          refine g_aload_n dX2_addLeg_145 rfl 0 rfl ?_
          refine h_get (v := va_rf (gR (sI (sI (sI Gr13 a16 ((10 + (5 * (gI Gr13 a16 (0 : Int32).toNatClampNeg))) + 0).toNatClampNeg p1) a22 ((10 + (5 * (gI Gr13 a16 (0 : Int32).toNatClampNeg))) + 1).toNatClampNeg p2) a27 ((10 + (5 * (gI Gr13 a16 (0 : Int32).toNatClampNeg))) + 2).toNatClampNeg p3) x 0)) 1 0 (C := RX2) (T := TX2) (N := 30) rfl in_X2 (by decide) q1989 (Or.inl rfl) rfl c15 rfl dX2_addLeg_146 ?_
          refine g_iload dX2_addLeg_149 6 rfl ?_
          refine g_iconst (v := 3) dX2_addLeg_151 (by decide) ?_
          refine g_iadd dX2_addLeg_152 ?_
          refine g_iload dX2_addLeg_153 4 rfl ?_
          obtain ⟨a32, e33, F⟩ := F
          obtain ⟨c34, F⟩ := F
          obtain ⟨m35, F⟩ := F
          obtain ⟨k36, F⟩ := F
          refine h_iast e33 c34 m35 k36 dX2_addLeg_155 ?_
          refine g_aload_n dX2_addLeg_156 rfl 0 rfl ?_
          refine h_get (v := va_rf (gR (sI (sI (sI (sI Gr13 a16 ((10 + (5 * (gI Gr13 a16 (0 : Int32).toNatClampNeg))) + 0).toNatClampNeg p1) a22 ((10 + (5 * (gI Gr13 a16 (0 : Int32).toNatClampNeg))) + 1).toNatClampNeg p2) a27 ((10 + (5 * (gI Gr13 a16 (0 : Int32).toNatClampNeg))) + 2).toNatClampNeg p3) a32 ((10 + (5 * (gI Gr13 a16 (0 : Int32).toNatClampNeg))) + 3).toNatClampNeg p4) x 0)) 1 0 (C := RX2) (T := TX2) (N := 30) rfl in_X2 (by decide) q1989 (Or.inl rfl) rfl c15 rfl dX2_addLeg_157 ?_
          refine g_iload dX2_addLeg_160 6 rfl ?_
          refine g_iconst (v := 4) dX2_addLeg_162 (by decide) ?_
          refine g_iadd dX2_addLeg_163 ?_
          refine g_iconst (v := 0) dX2_addLeg_164 (by decide) ?_
          obtain ⟨a37, e38, F⟩ := F
          obtain ⟨c39, F⟩ := F
          obtain ⟨m40, F⟩ := F
          obtain ⟨k41, F⟩ := F
          refine h_iast e38 c39 m40 k41 dX2_addLeg_165 ?_
          refine g_aload_n dX2_addLeg_166 rfl 0 rfl ?_
          refine h_get (v := va_rf (gR (sI (sI (sI (sI (sI Gr13 a16 ((10 + (5 * (gI Gr13 a16 (0 : Int32).toNatClampNeg))) + 0).toNatClampNeg p1) a22 ((10 + (5 * (gI Gr13 a16 (0 : Int32).toNatClampNeg))) + 1).toNatClampNeg p2) a27 ((10 + (5 * (gI Gr13 a16 (0 : Int32).toNatClampNeg))) + 2).toNatClampNeg p3) a32 ((10 + (5 * (gI Gr13 a16 (0 : Int32).toNatClampNeg))) + 3).toNatClampNeg p4) a37 ((10 + (5 * (gI Gr13 a16 (0 : Int32).toNatClampNeg))) + 4).toNatClampNeg 0) x 0)) 1 0 (C := RX2) (T := TX2) (N := 30) rfl in_X2 (by decide) q1989 (Or.inl rfl) rfl c15 rfl dX2_addLeg_167 ?_
          refine g_iconst (v := 0) dX2_addLeg_170 (by decide) ?_
          refine g_dup2 dX2_addLeg_171 rfl (va_rf_cat _) ?_
          obtain ⟨a42, e43, F⟩ := F
          obtain ⟨c44, F⟩ := F
          obtain ⟨k45, F⟩ := F
          refine h_iald e43 c44 k45 dX2_addLeg_172 ?_
          refine g_iconst (v := 1) dX2_addLeg_173 (by decide) ?_
          refine g_iadd dX2_addLeg_174 ?_
          obtain ⟨m46, F⟩ := F
          obtain ⟨k47, F⟩ := F
          refine h_iast e43 c44 m46 k47 dX2_addLeg_175 ?_
          refine g_aload_n dX2_addLeg_176 rfl 0 rfl ?_
          refine h_get (v := va_rf (gR (sI (sI (sI (sI (sI (sI Gr13 a16 ((10 + (5 * (gI Gr13 a16 (0 : Int32).toNatClampNeg))) + 0).toNatClampNeg p1) a22 ((10 + (5 * (gI Gr13 a16 (0 : Int32).toNatClampNeg))) + 1).toNatClampNeg p2) a27 ((10 + (5 * (gI Gr13 a16 (0 : Int32).toNatClampNeg))) + 2).toNatClampNeg p3) a32 ((10 + (5 * (gI Gr13 a16 (0 : Int32).toNatClampNeg))) + 3).toNatClampNeg p4) a37 ((10 + (5 * (gI Gr13 a16 (0 : Int32).toNatClampNeg))) + 4).toNatClampNeg 0) a42 (0 : Int32).toNatClampNeg ((gI (sI (sI (sI (sI (sI Gr13 a16 ((10 + (5 * (gI Gr13 a16 (0 : Int32).toNatClampNeg))) + 0).toNatClampNeg p1) a22 ((10 + (5 * (gI Gr13 a16 (0 : Int32).toNatClampNeg))) + 1).toNatClampNeg p2) a27 ((10 + (5 * (gI Gr13 a16 (0 : Int32).toNatClampNeg))) + 2).toNatClampNeg p3) a32 ((10 + (5 * (gI Gr13 a16 (0 : Int32).toNatClampNeg))) + 3).toNatClampNeg p4) a37 ((10 + (5 * (gI Gr13 a16 (0 : Int32).toNatClampNeg))) + 4).toNatClampNeg 0) a42 (0 : Int32).toNatClampNeg) + 1)) x 0)) 1 0 (C := RX2) (T := TX2) (N := 30) rfl in_X2 (by decide) q1989 (Or.inl rfl) rfl c15 rfl dX2_addLeg_177 ?_
          refine g_iconst (v := 0) dX2_addLeg_180 (by decide) ?_
          obtain ⟨a48, e49, F⟩ := F
          obtain ⟨c50, F⟩ := F
          obtain ⟨k51, F⟩ := F
          refine h_iald e49 c50 k51 dX2_addLeg_181 ?_
          refine g_iconst (v := 1) dX2_addLeg_182 (by decide) ?_
          refine g_isub dX2_addLeg_183 ?_
          exact g_iret rfl dX2_addLeg_184 F
        · have F := F.2 h52
          refine g_bipush (v := (-3)) dX2_addLeg_95 (by decide) ?_
          exact g_iret rfl dX2_addLeg_97 F
      · have F := F.2 h53
        refine g_bipush (v := (-4)) dX2_addLeg_81 (by decide) ?_
        exact g_iret rfl dX2_addLeg_83 F
    · have F := F.2 h54
      refine g_iconst (v := (-1)) dX2_addLeg_68 (by decide) ?_
      exact g_iret rfl dX2_addLeg_69 F
theorem rX2_in_0 {Γ : GE} {l : Launch} {h MC MS : Nat} {Q : Option Value → GH → Prop} {bc bs : Nat} {G : GH} (p0 : Int32) (p1 : Int32) (p2 : Int32) (F : ((p0 < p1 → (Q (some (.int 0)) G)) ∧ (¬ p0 < p1 → ((p2 < p0 → (Q (some (.int 0)) G)) ∧ (¬ p2 < p0 → (Q (some (.int 1)) G)))))) : GW Γ l mX2_in h MC MS Q 0 [(0, .int p0), (1, .int p1), (2, .int p2)] [] G bc bs := by
  refine g_iload_n dX2_in_0 rfl 0 rfl ?_
  refine g_iload_n dX2_in_1 rfl 1 rfl ?_
  refine g_icmp_lt 14 dX2_in_2 (by decide) (fun h2 => ?_) (fun h2 => ?_)
  · have F := F.1 h2
    refine g_iconst (v := 0) dX2_in_14 (by decide) ?_
    exact g_zret rfl rfl dX2_in_15 F
  · have F := F.2 h2
    refine g_iload_n dX2_in_5 rfl 0 rfl ?_
    refine g_iload_n dX2_in_6 rfl 2 rfl ?_
    refine g_icmp_gt 14 dX2_in_7 (by decide) (fun h1 => ?_) (fun h1 => ?_)
    · have F := F.1 h1
      refine g_iconst (v := 0) dX2_in_14 (by decide) ?_
      exact g_zret rfl rfl dX2_in_15 F
    · have F := F.2 h1
      refine g_iconst (v := 1) dX2_in_10 (by decide) ?_
      refine g_goto 15 dX2_in_11 (by decide) ?_
      exact g_zret rfl rfl dX2_in_15 F
theorem rX2_isThere_0 {Γ : GE} {l : Launch} {h MC MS : Nat} {Q : Option Value → GH → Prop} {bc bs : Nat} {G : GH} (x : Nat) (p1 : Int32) (p2 : Int32) (p3 : Int32) (p4 : Int32) (F : (GW Γ l mX2_isThere h MC MS Q 6 [(0, va_rf (some x)), (1, .int p1), (2, .int p2), (3, .int p3), (4, .int p4), (5, .int 0), (6, .int 0)] [] G bc bs)) : GW Γ l mX2_isThere h MC MS Q 0 [(0, va_rf (some x)), (1, .int p1), (2, .int p2), (3, .int p3), (4, .int p4)] [] G bc bs := by
  refine g_iconst (v := 0) dX2_isThere_0 (by decide) ?_
  refine s_istore (lv' := [(0, va_rf (some x)), (1, .int p1), (2, .int p2), (3, .int p3), (4, .int p4), (5, .int 0)]) (cat_R (cat_I (cat_I (cat_I (cat_I cat_nil))))) dX2_isThere_1 (by decide) rfl [1, 2, 3, 4, 5, 0] rfl ?_
  refine g_iconst (v := 0) dX2_isThere_3 (by decide) ?_
  refine s_istore (lv' := [(0, va_rf (some x)), (1, .int p1), (2, .int p2), (3, .int p3), (4, .int p4), (5, .int 0), (6, .int 0)]) (cat_R (cat_I (cat_I (cat_I (cat_I (cat_I cat_nil)))))) dX2_isThere_4 (by decide) rfl [1, 2, 3, 4, 5, 6, 0] rfl ?_
  exact F
theorem rX2_isThere_6 {Γ : GE} {l : Launch} {h MC MS : Nat} {Q : Option Value → GH → Prop} {bc bs : Nat} {G : GH} (x : Nat) (p1 : Int32) (p2 : Int32) (p3 : Int32) (p4 : Int32) (p5 : Int32) (p6 : Int32) (F : (gC G x = kO 1 ∧ ∃ a2, (gR G x 0) = some a2 ∧ gC G a2 = kA 0 ∧ vp_in 0 (gL G a2) ∧ (((gI G a2 (0 : Int32).toNatClampNeg) ≤ p6 → (narrow .boolean (.int p5) = .int p5 ∧ Q (some (.int p5)) G)) ∧ (¬ (gI G a2 (0 : Int32).toNatClampNeg) ≤ p6 → ((¬ p5 = 0 → (GW Γ l mX2_isThere h MC MS Q 6 [(0, va_rf (some x)), (1, .int p1), (2, .int p2), (3, .int p3), (4, .int p4), (5, .int 1), (6, .int (p6 + 1))] [] G bc bs)) ∧ (p5 = 0 → ((p6 = p1 → (GW Γ l mX2_isThere h MC MS Q 6 [(0, va_rf (some x)), (1, .int p1), (2, .int p2), (3, .int p3), (4, .int p4), (5, .int 0), (6, .int (p6 + 1))] [] G bc bs)) ∧ (¬ p6 = p1 → (cI Γ l h mX2_of [.ref x, .int p6, .int 0] G bc bs fun r7 Gr7 br7 sr7 => ((¬ r7 = p2 → (GW Γ l mX2_isThere h MC MS Q 6 [(0, va_rf (some x)), (1, .int p1), (2, .int p2), (3, .int p3), (4, .int p4), (5, .int 0), (6, .int (p6 + 1))] [] Gr7 br7 sr7)) ∧ (r7 = p2 → (gC Gr7 x = kO 1 ∧ cI Γ l h mX2_of [.ref x, .int p6, .int 1] Gr7 br7 sr7 fun r9 Gr9 br9 sr9 => ((¬ r9 = p3 → (GW Γ l mX2_isThere h MC MS Q 6 [(0, va_rf (some x)), (1, .int p1), (2, .int p2), (3, .int p3), (4, .int p4), (5, .int 0), (6, .int (p6 + 1))] [] Gr9 br9 sr9)) ∧ (r9 = p3 → (gC Gr9 x = kO 1 ∧ cI Γ l h mX2_of [.ref x, .int p6, .int 2] Gr9 br9 sr9 fun r12 Gr12 br12 sr12 => ((¬ r12 = p4 → (GW Γ l mX2_isThere h MC MS Q 6 [(0, va_rf (some x)), (1, .int p1), (2, .int p2), (3, .int p3), (4, .int p4), (5, .int 0), (6, .int (p6 + 1))] [] Gr12 br12 sr12)) ∧ (r12 = p4 → (GW Γ l mX2_isThere h MC MS Q 6 [(0, va_rf (some x)), (1, .int p1), (2, .int p2), (3, .int p3), (4, .int p4), (5, .int 1), (6, .int (p6 + 1))] [] Gr12 br12 sr12)))))))))))))))))) : GW Γ l mX2_isThere h MC MS Q 6 [(0, va_rf (some x)), (1, .int p1), (2, .int p2), (3, .int p3), (4, .int p4), (5, .int p5), (6, .int p6)] [] G bc bs := by
  refine g_iload dX2_isThere_6 6 rfl ?_
  refine g_aload_n dX2_isThere_8 rfl 0 rfl ?_
  obtain ⟨c1, F⟩ := F
  refine h_get (v := va_rf (gR G x 0)) 1 0 (C := RX2) (T := TX2) (N := 30) rfl in_X2 (by decide) q1989 (Or.inl rfl) rfl c1 rfl dX2_isThere_9 ?_
  refine g_iconst (v := 0) dX2_isThere_12 (by decide) ?_
  obtain ⟨a2, e3, F⟩ := F
  obtain ⟨c4, F⟩ := F
  obtain ⟨k5, F⟩ := F
  refine h_iald e3 c4 k5 dX2_isThere_13 ?_
  refine g_icmp_ge 75 dX2_isThere_14 (by decide) (fun h20 => ?_) (fun h20 => ?_)
  · have F := F.1 h20
    refine g_iload dX2_isThere_75 5 rfl ?_
    obtain ⟨k6, F⟩ := F
    exact g_zret rfl k6 dX2_isThere_77 F
  · have F := F.2 h20
    refine g_iload dX2_isThere_17 5 rfl ?_
    refine g_if_ne 62 dX2_isThere_19 (by decide) (fun h19 => ?_) (fun h19 => ?_)
    · have F := F.1 h19
      refine g_iconst (v := 1) dX2_isThere_62 (by decide) ?_
      refine g_goto 67 dX2_isThere_63 (by decide) ?_
      refine s_istore (lv' := [(0, va_rf (some x)), (1, .int p1), (2, .int p2), (3, .int p3), (4, .int p4), (5, .int 1), (6, .int p6)]) (cat_R (cat_I (cat_I (cat_I (cat_I (cat_I (cat_I cat_nil))))))) dX2_isThere_67 (by decide) rfl [1, 2, 3, 4, 5, 0, 6] rfl ?_
      refine s_iinc (v := (p6 + 1)) (lv' := [(0, va_rf (some x)), (1, .int p1), (2, .int p2), (3, .int p3), (4, .int p4), (5, .int 1), (6, .int (p6 + 1))]) (cat_R (cat_I (cat_I (cat_I (cat_I (cat_I (cat_I cat_nil))))))) dX2_isThere_69 (k0 := 6) rfl rfl (by decide) rfl [1, 2, 3, 4, 5, 6, 0] rfl ?_
      refine g_goto 6 dX2_isThere_72 (by decide) ?_
      exact F
    · have F := F.2 h19
      refine g_iload dX2_isThere_22 6 rfl ?_
      refine g_iload_n dX2_isThere_24 rfl 1 rfl ?_
      refine g_icmp_eq 66 dX2_isThere_25 (by decide) (fun h18 => ?_) (fun h18 => ?_)
      · have F := F.1 h18
        refine g_iconst (v := 0) dX2_isThere_66 (by decide) ?_
        refine s_istore (lv' := [(0, va_rf (some x)), (1, .int p1), (2, .int p2), (3, .int p3), (4, .int p4), (5, .int 0), (6, .int p6)]) (cat_R (cat_I (cat_I (cat_I (cat_I (cat_I (cat_I cat_nil))))))) dX2_isThere_67 (by decide) rfl [1, 2, 3, 4, 5, 0, 6] rfl ?_
        refine s_iinc (v := (p6 + 1)) (lv' := [(0, va_rf (some x)), (1, .int p1), (2, .int p2), (3, .int p3), (4, .int p4), (5, .int 0), (6, .int (p6 + 1))]) (cat_R (cat_I (cat_I (cat_I (cat_I (cat_I (cat_I cat_nil))))))) dX2_isThere_69 (k0 := 6) rfl rfl (by decide) rfl [1, 2, 3, 4, 5, 6, 0] rfl ?_
        refine g_goto 6 dX2_isThere_72 (by decide) ?_
        exact F
      · have F := F.2 h18
        refine g_aload_n dX2_isThere_28 rfl 0 rfl ?_
        refine g_iload dX2_isThere_29 6 rfl ?_
        refine g_iconst (v := 0) dX2_isThere_31 (by decide) ?_
        refine h_callVI (ci := 1) (C := RX2) (T := TX2) (N := 30) (As := [.int p6, .int 0]) (rest := []) F 2 rfl rfl (lw_V q2093 q2095 qs54 q117 q2096) vm_X2_of (by decide) rfl c1 rfl (room_of sc_nil (Nat.le_of_ble_eq_true rfl)) dX2_isThere_32 (fun r7 Gr7 br7 sr7 F => ?_)
        refine g_iload_n dX2_isThere_35 rfl 2 rfl ?_
        refine g_icmp_ne 66 dX2_isThere_36 (by decide) (fun h17 => ?_) (fun h17 => ?_)
        · have F := F.1 h17
          refine g_iconst (v := 0) dX2_isThere_66 (by decide) ?_
          refine s_istore (lv' := [(0, va_rf (some x)), (1, .int p1), (2, .int p2), (3, .int p3), (4, .int p4), (5, .int 0), (6, .int p6)]) (cat_R (cat_I (cat_I (cat_I (cat_I (cat_I (cat_I cat_nil))))))) dX2_isThere_67 (by decide) rfl [1, 2, 3, 4, 5, 0, 6] rfl ?_
          refine s_iinc (v := (p6 + 1)) (lv' := [(0, va_rf (some x)), (1, .int p1), (2, .int p2), (3, .int p3), (4, .int p4), (5, .int 0), (6, .int (p6 + 1))]) (cat_R (cat_I (cat_I (cat_I (cat_I (cat_I (cat_I cat_nil))))))) dX2_isThere_69 (k0 := 6) rfl rfl (by decide) rfl [1, 2, 3, 4, 5, 6, 0] rfl ?_
          refine g_goto 6 dX2_isThere_72 (by decide) ?_
          exact F
        · have F := F.2 h17
          refine g_aload_n dX2_isThere_39 rfl 0 rfl ?_
          refine g_iload dX2_isThere_40 6 rfl ?_
          refine g_iconst (v := 1) dX2_isThere_42 (by decide) ?_
          obtain ⟨c10, F⟩ := F
          refine h_callVI (ci := 1) (C := RX2) (T := TX2) (N := 30) (As := [.int p6, .int 1]) (rest := []) F 2 rfl rfl (lw_V q2093 q2095 qs54 q117 q2096) vm_X2_of (by decide) rfl c10 rfl (room_of sc_nil (Nat.le_of_ble_eq_true rfl)) dX2_isThere_43 (fun r9 Gr9 br9 sr9 F => ?_)
          refine g_iload_n dX2_isThere_46 rfl 3 rfl ?_
          refine g_icmp_ne 66 dX2_isThere_47 (by decide) (fun h16 => ?_) (fun h16 => ?_)
          · have F := F.1 h16
            refine g_iconst (v := 0) dX2_isThere_66 (by decide) ?_
            refine s_istore (lv' := [(0, va_rf (some x)), (1, .int p1), (2, .int p2), (3, .int p3), (4, .int p4), (5, .int 0), (6, .int p6)]) (cat_R (cat_I (cat_I (cat_I (cat_I (cat_I (cat_I cat_nil))))))) dX2_isThere_67 (by decide) rfl [1, 2, 3, 4, 5, 0, 6] rfl ?_
            refine s_iinc (v := (p6 + 1)) (lv' := [(0, va_rf (some x)), (1, .int p1), (2, .int p2), (3, .int p3), (4, .int p4), (5, .int 0), (6, .int (p6 + 1))]) (cat_R (cat_I (cat_I (cat_I (cat_I (cat_I (cat_I cat_nil))))))) dX2_isThere_69 (k0 := 6) rfl rfl (by decide) rfl [1, 2, 3, 4, 5, 6, 0] rfl ?_
            refine g_goto 6 dX2_isThere_72 (by decide) ?_
            exact F
          · have F := F.2 h16
            refine g_aload_n dX2_isThere_50 rfl 0 rfl ?_
            refine g_iload dX2_isThere_51 6 rfl ?_
            refine g_iconst (v := 2) dX2_isThere_53 (by decide) ?_
            obtain ⟨c13, F⟩ := F
            refine h_callVI (ci := 1) (C := RX2) (T := TX2) (N := 30) (As := [.int p6, .int 2]) (rest := []) F 2 rfl rfl (lw_V q2093 q2095 qs54 q117 q2096) vm_X2_of (by decide) rfl c13 rfl (room_of sc_nil (Nat.le_of_ble_eq_true rfl)) dX2_isThere_54 (fun r12 Gr12 br12 sr12 F => ?_)
            refine g_iload dX2_isThere_57 4 rfl ?_
            refine g_icmp_ne 66 dX2_isThere_59 (by decide) (fun h15 => ?_) (fun h15 => ?_)
            · have F := F.1 h15
              refine g_iconst (v := 0) dX2_isThere_66 (by decide) ?_
              refine s_istore (lv' := [(0, va_rf (some x)), (1, .int p1), (2, .int p2), (3, .int p3), (4, .int p4), (5, .int 0), (6, .int p6)]) (cat_R (cat_I (cat_I (cat_I (cat_I (cat_I (cat_I cat_nil))))))) dX2_isThere_67 (by decide) rfl [1, 2, 3, 4, 5, 0, 6] rfl ?_
              refine s_iinc (v := (p6 + 1)) (lv' := [(0, va_rf (some x)), (1, .int p1), (2, .int p2), (3, .int p3), (4, .int p4), (5, .int 0), (6, .int (p6 + 1))]) (cat_R (cat_I (cat_I (cat_I (cat_I (cat_I (cat_I cat_nil))))))) dX2_isThere_69 (k0 := 6) rfl rfl (by decide) rfl [1, 2, 3, 4, 5, 6, 0] rfl ?_
              refine g_goto 6 dX2_isThere_72 (by decide) ?_
              exact F
            · have F := F.2 h15
              refine g_iconst (v := 1) dX2_isThere_62 (by decide) ?_
              refine g_goto 67 dX2_isThere_63 (by decide) ?_
              refine s_istore (lv' := [(0, va_rf (some x)), (1, .int p1), (2, .int p2), (3, .int p3), (4, .int p4), (5, .int 1), (6, .int p6)]) (cat_R (cat_I (cat_I (cat_I (cat_I (cat_I (cat_I cat_nil))))))) dX2_isThere_67 (by decide) rfl [1, 2, 3, 4, 5, 0, 6] rfl ?_
              refine s_iinc (v := (p6 + 1)) (lv' := [(0, va_rf (some x)), (1, .int p1), (2, .int p2), (3, .int p3), (4, .int p4), (5, .int 1), (6, .int (p6 + 1))]) (cat_R (cat_I (cat_I (cat_I (cat_I (cat_I (cat_I cat_nil))))))) dX2_isThere_69 (k0 := 6) rfl rfl (by decide) rfl [1, 2, 3, 4, 5, 6, 0] rfl ?_
              refine g_goto 6 dX2_isThere_72 (by decide) ?_
              exact F
theorem rX2_of_0 {Γ : GE} {l : Launch} {h MC MS : Nat} {Q : Option Value → GH → Prop} {bc bs : Nat} {G : GH} (x : Nat) (p1 : Int32) (p2 : Int32) (F : (gC G x = kO 1 ∧ ∃ a2, (gR G x 0) = some a2 ∧ gC G a2 = kA 0 ∧ vp_in ((10 + (5 * p1)) + p2) (gL G a2) ∧ Q (some (.int (gI G a2 ((10 + (5 * p1)) + p2).toNatClampNeg))) G)) : GW Γ l mX2_of h MC MS Q 0 [(0, va_rf (some x)), (1, .int p1), (2, .int p2)] [] G bc bs := by
  refine g_aload_n dX2_of_0 rfl 0 rfl ?_
  obtain ⟨c1, F⟩ := F
  refine h_get (v := va_rf (gR G x 0)) 1 0 (C := RX2) (T := TX2) (N := 30) rfl in_X2 (by decide) q1989 (Or.inl rfl) rfl c1 rfl dX2_of_1 ?_
  refine g_bipush (v := 10) dX2_of_4 (by decide) ?_
  refine g_iconst (v := 5) dX2_of_6 (by decide) ?_
  refine g_iload_n dX2_of_7 rfl 1 rfl ?_
  refine g_imul dX2_of_8 ?_
  refine g_iadd dX2_of_9 ?_
  refine g_iload_n dX2_of_10 rfl 2 rfl ?_
  refine g_iadd dX2_of_11 ?_
  obtain ⟨a2, e3, F⟩ := F
  obtain ⟨c4, F⟩ := F
  obtain ⟨k5, F⟩ := F
  refine h_iald e3 c4 k5 dX2_of_12 ?_
  exact g_iret rfl dX2_of_13 F
theorem rX2_change_0 {Γ : GE} {l : Launch} {h MC MS : Nat} {Q : Option Value → GH → Prop} {bc bs : Nat} {G : GH} (x : Nat) (F : (gC G x = kO 1 ∧ ((¬ (gI G x 6) = 0 → (Q none G)) ∧ ((gI G x 6) = 0 → (cV Γ l h mX2_push [.ref x, va_rf (gR G x 0)] G bc bs fun Gr2 br2 sr2 => Q none Gr2))))) : GW Γ l mX2_change h MC MS Q 0 [(0, va_rf (some x))] [] G bc bs := by
  refine g_aload_n dX2_change_0 rfl 0 rfl ?_
  obtain ⟨c1, F⟩ := F
  refine h_get (v := .int (gI G x 6)) 1 6 (C := RX2) (T := TX2) (N := 30) rfl in_X2 (by decide) q1995 (Or.inl rfl) rfl c1 rfl dX2_change_1 ?_
  refine g_if_ne 15 dX2_change_4 (by decide) (fun h4 => ?_) (fun h4 => ?_)
  · have F := F.1 h4
    exact g_vret rfl dX2_change_15 F
  · have F := F.2 h4
    refine g_aload_n dX2_change_7 rfl 0 rfl ?_
    refine g_aload_n dX2_change_8 rfl 0 rfl ?_
    refine h_get (v := va_rf (gR G x 0)) 1 0 (C := RX2) (T := TX2) (N := 30) rfl in_X2 (by decide) q1989 (Or.inl rfl) rfl c1 rfl dX2_change_9 ?_
    refine h_callVV (ci := 1) (C := RX2) (T := TX2) (N := 30) (As := [va_rf (gR G x 0)]) (rest := []) F 1 rfl rfl (lw_V q2101 q2103 qs56 q117 q2104) vm_X2_push (by decide) rfl c1 rfl (room_of sc_nil (Nat.le_of_ble_eq_true rfl)) dX2_change_12 (fun Gr2 br2 sr2 F => ?_)
    exact g_vret rfl dX2_change_15 F
theorem rX2_push_0 {Γ : GE} {l : Launch} {h MC MS : Nat} {Q : Option Value → GH → Prop} {bc bs : Nat} {G : GH} (x : Nat) (p1 : Option Nat) (F : (gC G x = kO 1 ∧ ((¬ (gI G x 4) = 8 → (GW Γ l mX2_push h MC MS Q 37 [(0, va_rf (some x)), (1, va_rf p1)] [] G bc bs)) ∧ ((gI G x 4) = 8 → (∃ a2, (gR G x 3) = some a2 ∧ gC G a2 = kA 0 ∧ gM G a2 = true ∧ (298 : Int32).toNatClampNeg + (2086 : Int32).toNatClampNeg ≤ gL G a2 ∧ (0 : Int32).toNatClampNeg + (2086 : Int32).toNatClampNeg ≤ gL G a2 ∧ 0 < h ∧ ∀ H9, H9 = (wI G a2 (va_cpy (gI G a2) (gI G a2) (298 : Int32).toNatClampNeg (0 : Int32).toNatClampNeg (2086 : Int32).toNatClampNeg)) → gC H9 x = kO 1 ∧ gM H9 x = true ∧ GW Γ l mX2_push h MC MS Q 37 [(0, va_rf (some x)), (1, va_rf p1)] [] (sI H9 x 4 ((gI H9 x 4) - 1)) bc bs))))) : GW Γ l mX2_push h MC MS Q 0 [(0, va_rf (some x)), (1, va_rf p1)] [] G bc bs := by
  refine g_aload_n dX2_push_0 rfl 0 rfl ?_
  obtain ⟨c1, F⟩ := F
  refine h_get (v := .int (gI G x 4)) 1 4 (C := RX2) (T := TX2) (N := 30) rfl in_X2 (by decide) q1993 (Or.inl rfl) rfl c1 rfl dX2_push_1 ?_
  refine g_bipush (v := 8) dX2_push_4 (by decide) ?_
  refine g_icmp_ne 37 dX2_push_6 (by decide) (fun h14 => ?_) (fun h14 => ?_)
  · have F := F.1 h14
    exact F
  · have F := F.2 h14
    refine g_aload_n dX2_push_9 rfl 0 rfl ?_
    refine h_get (v := va_rf (gR G x 3)) 1 3 (C := RX2) (T := TX2) (N := 30) rfl in_X2 (by decide) q1992 (Or.inl rfl) rfl c1 rfl dX2_push_10 ?_
    refine g_sipush (v := 298) dX2_push_13 (by decide) ?_
    refine g_aload_n dX2_push_16 rfl 0 rfl ?_
    refine h_get (v := va_rf (gR G x 3)) 1 3 (C := RX2) (T := TX2) (N := 30) rfl in_X2 (by decide) q1992 (Or.inl rfl) rfl c1 rfl dX2_push_17 ?_
    refine g_iconst (v := 0) dX2_push_20 (by decide) ?_
    refine g_sipush (v := 2086) dX2_push_21 (by decide) ?_
    obtain ⟨a2, e3, F⟩ := F
    obtain ⟨c4, F⟩ := F
    obtain ⟨m5, F⟩ := F
    obtain ⟨k6, F⟩ := F
    obtain ⟨k7, F⟩ := F
    obtain ⟨k8, F⟩ := F
    refine h_copyi 0 (by decide) q1988 q439 q438 q118 e3 c4 m5 e3 c4 m5 (by decide) (by decide) (by decide) k6 k7 (fun _ _ => rfl) k8 (room_of sc_nil (Nat.le_of_ble_eq_true rfl)) dX2_push_24 ?_
    obtain ⟨H9, h10⟩ : ∃ g : GH, g = (wI G a2 (va_cpy (gI G a2) (gI G a2) (298 : Int32).toNatClampNeg (0 : Int32).toNatClampNeg (2086 : Int32).toNatClampNeg)) := ⟨_, rfl⟩
    rw [← h10]
    have F := F H9 h10
    refine g_aload_n dX2_push_27 rfl 0 rfl ?_
    refine g_dup dX2_push_28 (va_rf_cat _) ?_
    obtain ⟨c12, F⟩ := F
    refine h_get (v := .int (gI H9 x 4)) 1 4 (C := RX2) (T := TX2) (N := 30) rfl in_X2 (by decide) q1993 (Or.inl rfl) rfl c12 rfl dX2_push_29 ?_
    refine g_iconst (v := 1) dX2_push_32 (by decide) ?_
    refine g_isub dX2_push_33 ?_
    obtain ⟨m13, F⟩ := F
    refine h_putI (mi := mX2_push) 1 4 (C := RX2) (T := TX2) (N := 30) rfl in_X2 tyX2_ok nmX2 (by decide) q1993 (Or.inl rfl) (Or.inl rfl) rfl rfl c12 m13 rfl rfl dX2_push_34 ?_
    exact F
theorem rX2_push_37 {Γ : GE} {l : Launch} {h MC MS : Nat} {Q : Option Value → GH → Prop} {bc bs : Nat} {G : GH} (x : Nat) (p1 : Option Nat) (F : (gC G x = kO 1 ∧ ∃ a2, p1 = some a2 ∧ gC G a2 = kA 0 ∧ gM G a2 = true ∧ ∃ a6, (gR G x 3) = some a6 ∧ gC G a6 = kA 0 ∧ gM G a6 = true ∧ ¬ (298 * (gI G x 4)) < 0 ∧ (0 : Int32).toNatClampNeg + (298 : Int32).toNatClampNeg ≤ gL G a2 ∧ (298 * (gI G x 4)).toNatClampNeg + (298 : Int32).toNatClampNeg ≤ gL G a6 ∧ 0 < h ∧ ∀ H14, H14 = (wI G a6 (va_cpy (gI G a2) (gI G a6) (0 : Int32).toNatClampNeg (298 * (gI G x 4)).toNatClampNeg (298 : Int32).toNatClampNeg)) → gC H14 x = kO 1 ∧ gM H14 x = true ∧ Q none (sI H14 x 4 ((gI H14 x 4) + 1)))) : GW Γ l mX2_push h MC MS Q 37 [(0, va_rf (some x)), (1, va_rf p1)] [] G bc bs := by
  refine g_aload_n dX2_push_37 rfl 1 rfl ?_
  refine g_iconst (v := 0) dX2_push_38 (by decide) ?_
  refine g_aload_n dX2_push_39 rfl 0 rfl ?_
  obtain ⟨c1, F⟩ := F
  refine h_get (v := va_rf (gR G x 3)) 1 3 (C := RX2) (T := TX2) (N := 30) rfl in_X2 (by decide) q1992 (Or.inl rfl) rfl c1 rfl dX2_push_40 ?_
  refine g_sipush (v := 298) dX2_push_43 (by decide) ?_
  refine g_aload_n dX2_push_46 rfl 0 rfl ?_
  refine h_get (v := .int (gI G x 4)) 1 4 (C := RX2) (T := TX2) (N := 30) rfl in_X2 (by decide) q1993 (Or.inl rfl) rfl c1 rfl dX2_push_47 ?_
  refine g_imul dX2_push_50 ?_
  refine g_sipush (v := 298) dX2_push_51 (by decide) ?_
  obtain ⟨a2, e3, F⟩ := F
  obtain ⟨c4, F⟩ := F
  obtain ⟨m5, F⟩ := F
  obtain ⟨a6, e7, F⟩ := F
  obtain ⟨c8, F⟩ := F
  obtain ⟨m9, F⟩ := F
  obtain ⟨k10, F⟩ := F
  obtain ⟨k11, F⟩ := F
  obtain ⟨k12, F⟩ := F
  obtain ⟨k13, F⟩ := F
  refine h_copyi 0 (by decide) q1988 q439 q438 q118 e3 c4 m5 e7 c8 m9 (by decide) k10 (by decide) k11 k12 (fun _ _ => rfl) k13 (room_of sc_nil (Nat.le_of_ble_eq_true rfl)) dX2_push_54 ?_
  obtain ⟨H14, h15⟩ : ∃ g : GH, g = (wI G a6 (va_cpy (gI G a2) (gI G a6) (0 : Int32).toNatClampNeg (298 * (gI G x 4)).toNatClampNeg (298 : Int32).toNatClampNeg)) := ⟨_, rfl⟩
  rw [← h15]
  have F := F H14 h15
  refine g_aload_n dX2_push_57 rfl 0 rfl ?_
  refine g_dup dX2_push_58 (va_rf_cat _) ?_
  obtain ⟨c17, F⟩ := F
  refine h_get (v := .int (gI H14 x 4)) 1 4 (C := RX2) (T := TX2) (N := 30) rfl in_X2 (by decide) q1993 (Or.inl rfl) rfl c17 rfl dX2_push_59 ?_
  refine g_iconst (v := 1) dX2_push_62 (by decide) ?_
  refine g_iadd dX2_push_63 ?_
  obtain ⟨m18, F⟩ := F
  refine h_putI (mi := mX2_push) 1 4 (C := RX2) (T := TX2) (N := 30) rfl in_X2 tyX2_ok nmX2 (by decide) q1993 (Or.inl rfl) (Or.inl rfl) rfl rfl c17 m18 rfl rfl dX2_push_64 ?_
  exact g_vret rfl dX2_push_67 F
theorem rX2_addCrew_0 {Γ : GE} {l : Launch} {h MC MS : Nat} {Q : Option Value → GH → Prop} {bc bs : Nat} {G : GH} (x : Nat) (p1 : Int32) (F : (cI Γ l h mX2_in [.int p1, .int 0, .int 5] G bc bs fun r1 Gr1 br1 sr1 => ((¬ r1 = 0 → (gC Gr1 x = kO 1 ∧ ∃ a4, (gR Gr1 x 0) = some a4 ∧ gC Gr1 a4 = kA 0 ∧ vp_in 1 (gL Gr1 a4) ∧ ((¬ (gI Gr1 a4 (1 : Int32).toNatClampNeg) = 6 → (cV Γ l h mX2_change [.ref x] Gr1 br1 sr1 fun Gr8 br8 sr8 => gC Gr8 x = kO 1 ∧ ∃ a11, (gR Gr8 x 0) = some a11 ∧ gC Gr8 a11 = kA 0 ∧ vp_in 1 (gL Gr8 a11) ∧ GW Γ l mX2_addCrew h MC MS Q 38 [(0, va_rf (some x)), (1, .int p1), (2, .int (gI Gr8 a11 (1 : Int32).toNatClampNeg)), (3, .int 0)] [] Gr8 br8 sr8)) ∧ ((gI Gr1 a4 (1 : Int32).toNatClampNeg) = 6 → (Q (some (.int (-3))) Gr1))))) ∧ (r1 = 0 → (Q (some (.int (-1))) Gr1))))) : GW Γ l mX2_addCrew h MC MS Q 0 [(0, va_rf (some x)), (1, .int p1)] [] G bc bs := by
  refine g_iload_n dX2_addCrew_0 rfl 1 rfl ?_
  refine g_iconst (v := 0) dX2_addCrew_1 (by decide) ?_
  refine g_iconst (v := 5) dX2_addCrew_2 (by decide) ?_
  refine h_callSI (As := [.int p1, .int 0, .int 5]) (rest := []) F 3 rfl (lw_S q2085 q2086 q117 q2087) vm_X2_in.2 (by decide) rfl (room_of sc_nil (Nat.le_of_ble_eq_true rfl)) dX2_addCrew_3 (fun r1 Gr1 br1 sr1 F => ?_)
  refine g_if_ne 11 dX2_addCrew_6 (by decide) (fun h16 => ?_) (fun h16 => ?_)
  · have F := F.1 h16
    refine g_aload_n dX2_addCrew_11 rfl 0 rfl ?_
    obtain ⟨c3, F⟩ := F
    refine h_get (v := va_rf (gR Gr1 x 0)) 1 0 (C := RX2) (T := TX2) (N := 30) rfl in_X2 (by decide) q1989 (Or.inl rfl) rfl c3 rfl dX2_addCrew_12 ?_
    refine g_iconst (v := 1) dX2_addCrew_15 (by decide) ?_
    obtain ⟨a4, e5, F⟩ := F
    obtain ⟨c6, F⟩ := F
    obtain ⟨k7, F⟩ := F
    refine h_iald e5 c6 k7 dX2_addCrew_16 ?_
    refine g_bipush (v := 6) dX2_addCrew_17 (by decide) ?_
    refine g_icmp_ne 25 dX2_addCrew_19 (by decide) (fun h15 => ?_) (fun h15 => ?_)
    · have F := F.1 h15
      refine g_aload_n dX2_addCrew_25 rfl 0 rfl ?_
      refine h_callVV (ci := 1) (C := RX2) (T := TX2) (N := 30) (As := []) (rest := []) F 0 rfl rfl (lw_V q2097 q2099 qs55 q117 q2100) vm_X2_change (by decide) rfl c3 rfl (room_of sc_nil (Nat.le_of_ble_eq_true rfl)) dX2_addCrew_26 (fun Gr8 br8 sr8 F => ?_)
      refine g_aload_n dX2_addCrew_29 rfl 0 rfl ?_
      obtain ⟨c10, F⟩ := F
      refine h_get (v := va_rf (gR Gr8 x 0)) 1 0 (C := RX2) (T := TX2) (N := 30) rfl in_X2 (by decide) q1989 (Or.inl rfl) rfl c10 rfl dX2_addCrew_30 ?_
      refine g_iconst (v := 1) dX2_addCrew_33 (by decide) ?_
      obtain ⟨a11, e12, F⟩ := F
      obtain ⟨c13, F⟩ := F
      obtain ⟨k14, F⟩ := F
      refine h_iald e12 c13 k14 dX2_addCrew_34 ?_
      refine s_istore_n (lv' := [(0, va_rf (some x)), (1, .int p1), (2, .int (gI Gr8 a11 (1 : Int32).toNatClampNeg))]) (cat_R (cat_I cat_nil)) dX2_addCrew_35 rfl (by decide) rfl [1, 2, 0] rfl ?_
      refine g_iconst (v := 0) dX2_addCrew_36 (by decide) ?_
      refine s_istore_n (lv' := [(0, va_rf (some x)), (1, .int p1), (2, .int (gI Gr8 a11 (1 : Int32).toNatClampNeg)), (3, .int 0)]) (cat_R (cat_I (cat_I cat_nil))) dX2_addCrew_37 rfl (by decide) rfl [1, 2, 3, 0] rfl ?_
      exact F
    · have F := F.2 h15
      refine g_bipush (v := (-3)) dX2_addCrew_22 (by decide) ?_
      exact g_iret rfl dX2_addCrew_24 F
  · have F := F.2 h16
    refine g_iconst (v := (-1)) dX2_addCrew_9 (by decide) ?_
    exact g_iret rfl dX2_addCrew_10 F
theorem rX2_addCrew_38 {Γ : GE} {l : Launch} {h MC MS : Nat} {Q : Option Value → GH → Prop} {bc bs : Nat} {G : GH} (x : Nat) (p1 : Int32) (p2 : Int32) (p3 : Int32) (F : (((28 : Int32) ≤ p3 → (gC G x = kO 1 ∧ cI Γ l h mX2_crewAt [.int p2, .int 0] G bc bs fun r2 Gr2 br2 sr2 => ∃ a4, (gR G x 0) = some a4 ∧ gC Gr2 a4 = kA 0 ∧ gM Gr2 a4 = true ∧ vp_in r2 (gL Gr2 a4) ∧ gC (sI Gr2 a4 r2.toNatClampNeg p1) x = kO 1 ∧ ∃ a10, (gR (sI Gr2 a4 r2.toNatClampNeg p1) x 0) = some a10 ∧ gC (sI Gr2 a4 r2.toNatClampNeg p1) a10 = kA 0 ∧ vp_in 1 (gL (sI Gr2 a4 r2.toNatClampNeg p1) a10) ∧ gM (sI Gr2 a4 r2.toNatClampNeg p1) a10 = true ∧ vp_in 1 (gL (sI Gr2 a4 r2.toNatClampNeg p1) a10) ∧ Q (some (.int p2)) (sI (sI Gr2 a4 r2.toNatClampNeg p1) a10 (1 : Int32).toNatClampNeg ((gI (sI Gr2 a4 r2.toNatClampNeg p1) a10 (1 : Int32).toNatClampNeg) + 1)))) ∧ (¬ (28 : Int32) ≤ p3 → (gC G x = kO 1 ∧ cI Γ l h mX2_crewAt [.int p2, .int p3] G bc bs fun r17 Gr17 br17 sr17 => ∃ a19, (gR G x 0) = some a19 ∧ gC Gr17 a19 = kA 0 ∧ gM Gr17 a19 = true ∧ vp_in r17 (gL Gr17 a19) ∧ GW Γ l mX2_addCrew h MC MS Q 38 [(0, va_rf (some x)), (1, .int p1), (2, .int p2), (3, .int (p3 + 1))] [] (sI Gr17 a19 r17.toNatClampNeg 0) br17 sr17)))) : GW Γ l mX2_addCrew h MC MS Q 38 [(0, va_rf (some x)), (1, .int p1), (2, .int p2), (3, .int p3)] [] G bc bs := by
  refine g_iload_n dX2_addCrew_38 rfl 3 rfl ?_
  refine g_bipush (v := 28) dX2_addCrew_39 (by decide) ?_
  refine g_icmp_ge 61 dX2_addCrew_41 (by decide) (fun h24 => ?_) (fun h24 => ?_)
  · have F := F.1 h24
    refine g_aload_n dX2_addCrew_61 rfl 0 rfl ?_
    obtain ⟨c1, F⟩ := F
    refine h_get (v := va_rf (gR G x 0)) 1 0 (C := RX2) (T := TX2) (N := 30) rfl in_X2 (by decide) q1989 (Or.inl rfl) rfl c1 rfl dX2_addCrew_62 ?_
    refine g_iload_n dX2_addCrew_65 rfl 2 rfl ?_
    refine g_iconst (v := 0) dX2_addCrew_66 (by decide) ?_
    refine h_callSI (As := [.int p2, .int 0]) (rest := [va_rf (gR G x 0)]) F 2 rfl (lw_S q2109 q2110 q117 q2111) vm_X2_crewAt.2 (by decide) rfl (room_of (sc_R sc_nil) (Nat.le_of_ble_eq_true rfl)) dX2_addCrew_67 (fun r2 Gr2 br2 sr2 F => ?_)
    refine g_iload_n dX2_addCrew_70 rfl 1 rfl ?_
    obtain ⟨a4, e5, F⟩ := F
    obtain ⟨c6, F⟩ := F
    obtain ⟨m7, F⟩ := F
    obtain ⟨k8, F⟩ := F
    refine h_iast e5 c6 m7 k8 dX2_addCrew_71 ?_
    refine g_aload_n dX2_addCrew_72 rfl 0 rfl ?_
    obtain ⟨c9, F⟩ := F
    refine h_get (v := va_rf (gR (sI Gr2 a4 r2.toNatClampNeg p1) x 0)) 1 0 (C := RX2) (T := TX2) (N := 30) rfl in_X2 (by decide) q1989 (Or.inl rfl) rfl c9 rfl dX2_addCrew_73 ?_
    refine g_iconst (v := 1) dX2_addCrew_76 (by decide) ?_
    refine g_dup2 dX2_addCrew_77 rfl (va_rf_cat _) ?_
    obtain ⟨a10, e11, F⟩ := F
    obtain ⟨c12, F⟩ := F
    obtain ⟨k13, F⟩ := F
    refine h_iald e11 c12 k13 dX2_addCrew_78 ?_
    refine g_iconst (v := 1) dX2_addCrew_79 (by decide) ?_
    refine g_iadd dX2_addCrew_80 ?_
    obtain ⟨m14, F⟩ := F
    obtain ⟨k15, F⟩ := F
    refine h_iast e11 c12 m14 k15 dX2_addCrew_81 ?_
    refine g_iload_n dX2_addCrew_82 rfl 2 rfl ?_
    exact g_iret rfl dX2_addCrew_83 F
  · have F := F.2 h24
    refine g_aload_n dX2_addCrew_44 rfl 0 rfl ?_
    obtain ⟨c16, F⟩ := F
    refine h_get (v := va_rf (gR G x 0)) 1 0 (C := RX2) (T := TX2) (N := 30) rfl in_X2 (by decide) q1989 (Or.inl rfl) rfl c16 rfl dX2_addCrew_45 ?_
    refine g_iload_n dX2_addCrew_48 rfl 2 rfl ?_
    refine g_iload_n dX2_addCrew_49 rfl 3 rfl ?_
    refine h_callSI (As := [.int p2, .int p3]) (rest := [va_rf (gR G x 0)]) F 2 rfl (lw_S q2109 q2110 q117 q2111) vm_X2_crewAt.2 (by decide) rfl (room_of (sc_R sc_nil) (Nat.le_of_ble_eq_true rfl)) dX2_addCrew_50 (fun r17 Gr17 br17 sr17 F => ?_)
    refine g_iconst (v := 0) dX2_addCrew_53 (by decide) ?_
    obtain ⟨a19, e20, F⟩ := F
    obtain ⟨c21, F⟩ := F
    obtain ⟨m22, F⟩ := F
    obtain ⟨k23, F⟩ := F
    refine h_iast e20 c21 m22 k23 dX2_addCrew_54 ?_
    refine s_iinc (v := (p3 + 1)) (lv' := [(0, va_rf (some x)), (1, .int p1), (2, .int p2), (3, .int (p3 + 1))]) (cat_R (cat_I (cat_I (cat_I cat_nil)))) dX2_addCrew_55 (k0 := 3) rfl rfl (by decide) rfl [1, 2, 3, 0] rfl ?_
    refine g_goto 38 dX2_addCrew_58 (by decide) ?_
    exact F
theorem rX2_crewAt_0 {Γ : GE} {l : Launch} {h MC MS : Nat} {Q : Option Value → GH → Prop} {bc bs : Nat} {G : GH} (p0 : Int32) (p1 : Int32) (F : (Q (some (.int ((130 + (28 * p0)) + p1))) G)) : GW Γ l mX2_crewAt h MC MS Q 0 [(0, .int p0), (1, .int p1)] [] G bc bs := by
  refine g_sipush (v := 130) dX2_crewAt_0 (by decide) ?_
  refine g_bipush (v := 28) dX2_crewAt_3 (by decide) ?_
  refine g_iload_n dX2_crewAt_5 rfl 0 rfl ?_
  refine g_imul dX2_crewAt_6 ?_
  refine g_iadd dX2_crewAt_7 ?_
  refine g_iload_n dX2_crewAt_8 rfl 1 rfl ?_
  refine g_iadd dX2_crewAt_9 ?_
  exact g_iret rfl dX2_crewAt_10 F
theorem rX2_legCount_0 {Γ : GE} {l : Launch} {h MC MS : Nat} {Q : Option Value → GH → Prop} {bc bs : Nat} {G : GH} (x : Nat) (F : (gC G x = kO 1 ∧ ∃ a2, (gR G x 0) = some a2 ∧ gC G a2 = kA 0 ∧ vp_in 0 (gL G a2) ∧ Q (some (.int (gI G a2 (0 : Int32).toNatClampNeg))) G)) : GW Γ l mX2_legCount h MC MS Q 0 [(0, va_rf (some x))] [] G bc bs := by
  refine g_aload_n dX2_legCount_0 rfl 0 rfl ?_
  obtain ⟨c1, F⟩ := F
  refine h_get (v := va_rf (gR G x 0)) 1 0 (C := RX2) (T := TX2) (N := 30) rfl in_X2 (by decide) q1989 (Or.inl rfl) rfl c1 rfl dX2_legCount_1 ?_
  refine g_iconst (v := 0) dX2_legCount_4 (by decide) ?_
  obtain ⟨a2, e3, F⟩ := F
  obtain ⟨c4, F⟩ := F
  obtain ⟨k5, F⟩ := F
  refine h_iald e3 c4 k5 dX2_legCount_5 ?_
  exact g_iret rfl dX2_legCount_6 F
theorem rX2_crewCount_0 {Γ : GE} {l : Launch} {h MC MS : Nat} {Q : Option Value → GH → Prop} {bc bs : Nat} {G : GH} (x : Nat) (F : (gC G x = kO 1 ∧ ∃ a2, (gR G x 0) = some a2 ∧ gC G a2 = kA 0 ∧ vp_in 1 (gL G a2) ∧ Q (some (.int (gI G a2 (1 : Int32).toNatClampNeg))) G)) : GW Γ l mX2_crewCount h MC MS Q 0 [(0, va_rf (some x))] [] G bc bs := by
  refine g_aload_n dX2_crewCount_0 rfl 0 rfl ?_
  obtain ⟨c1, F⟩ := F
  refine h_get (v := va_rf (gR G x 0)) 1 0 (C := RX2) (T := TX2) (N := 30) rfl in_X2 (by decide) q1989 (Or.inl rfl) rfl c1 rfl dX2_crewCount_1 ?_
  refine g_iconst (v := 1) dX2_crewCount_4 (by decide) ?_
  obtain ⟨a2, e3, F⟩ := F
  obtain ⟨c4, F⟩ := F
  obtain ⟨k5, F⟩ := F
  refine h_iald e3 c4 k5 dX2_crewCount_5 ?_
  exact g_iret rfl dX2_crewCount_6 F
theorem rX2_leg_0 {Γ : GE} {l : Launch} {h MC MS : Nat} {Q : Option Value → GH → Prop} {bc bs : Nat} {G : GH} (x : Nat) (p1 : Int32) (p2 : Int32) (F : (gC G x = kO 1 ∧ cI Γ l h mX2_isLeg [.ref x, .int p1] G bc bs fun r1 Gr1 br1 sr1 => ((r1 = 0 → (Q (some (.int (-1))) Gr1)) ∧ (¬ r1 = 0 → (cI Γ l h mX2_in [.int p2, .int 0, .int 5] Gr1 br1 sr1 fun r4 Gr4 br4 sr4 => ((¬ r4 = 0 → (((5 : Int32) ≤ p2 → (gC Gr4 x = kO 1 ∧ cI Γ l h mX2_flierOf [.ref x, .int p1] Gr4 br4 sr4 fun r6 Gr6 br6 sr6 => Q (some (.int r6)) Gr6)) ∧ (¬ (5 : Int32) ≤ p2 → (gC Gr4 x = kO 1 ∧ cI Γ l h mX2_of [.ref x, .int p1, .int p2] Gr4 br4 sr4 fun r9 Gr9 br9 sr9 => Q (some (.int r9)) Gr9)))) ∧ (r4 = 0 → (Q (some (.int (-1))) Gr4)))))))) : GW Γ l mX2_leg h MC MS Q 0 [(0, va_rf (some x)), (1, .int p1), (2, .int p2)] [] G bc bs := by
  refine g_aload_n dX2_leg_0 rfl 0 rfl ?_
  refine g_iload_n dX2_leg_1 rfl 1 rfl ?_
  obtain ⟨c2, F⟩ := F
  refine h_callVI (ci := 1) (C := RX2) (T := TX2) (N := 30) (As := [.int p1]) (rest := []) F 1 rfl rfl (lw_V q2124 q2126 qs57 q117 q2127) vm_X2_isLeg (by decide) rfl c2 rfl (room_of sc_nil (Nat.le_of_ble_eq_true rfl)) dX2_leg_2 (fun r1 Gr1 br1 sr1 F => ?_)
  refine g_if_eq 17 dX2_leg_5 (by decide) (fun h14 => ?_) (fun h14 => ?_)
  · have F := F.1 h14
    refine g_iconst (v := (-1)) dX2_leg_17 (by decide) ?_
    exact g_iret rfl dX2_leg_18 F
  · have F := F.2 h14
    refine g_iload_n dX2_leg_8 rfl 2 rfl ?_
    refine g_iconst (v := 0) dX2_leg_9 (by decide) ?_
    refine g_iconst (v := 5) dX2_leg_10 (by decide) ?_
    refine h_callSI (As := [.int p2, .int 0, .int 5]) (rest := []) F 3 rfl (lw_S q2085 q2086 q117 q2087) vm_X2_in.2 (by decide) rfl (room_of sc_nil (Nat.le_of_ble_eq_true rfl)) dX2_leg_11 (fun r4 Gr4 br4 sr4 F => ?_)
    refine g_if_ne 19 dX2_leg_14 (by decide) (fun h13 => ?_) (fun h13 => ?_)
    · have F := F.1 h13
      refine g_iload_n dX2_leg_19 rfl 2 rfl ?_
      refine g_iconst (v := 5) dX2_leg_20 (by decide) ?_
      refine g_icmp_ge 33 dX2_leg_21 (by decide) (fun h12 => ?_) (fun h12 => ?_)
      · have F := F.1 h12
        refine g_aload_n dX2_leg_33 rfl 0 rfl ?_
        refine g_iload_n dX2_leg_34 rfl 1 rfl ?_
        obtain ⟨c7, F⟩ := F
        refine h_callVI (ci := 1) (C := RX2) (T := TX2) (N := 30) (As := [.int p1]) (rest := []) F 1 rfl rfl (lw_V q2128 q2130 qs58 q117 q2131) vm_X2_flierOf (by decide) rfl c7 rfl (room_of sc_nil (Nat.le_of_ble_eq_true rfl)) dX2_leg_35 (fun r6 Gr6 br6 sr6 F => ?_)
        exact g_iret rfl dX2_leg_38 F
      · have F := F.2 h12
        refine g_aload_n dX2_leg_24 rfl 0 rfl ?_
        refine g_iload_n dX2_leg_25 rfl 1 rfl ?_
        refine g_iload_n dX2_leg_26 rfl 2 rfl ?_
        obtain ⟨c10, F⟩ := F
        refine h_callVI (ci := 1) (C := RX2) (T := TX2) (N := 30) (As := [.int p1, .int p2]) (rest := []) F 2 rfl rfl (lw_V q2093 q2095 qs54 q117 q2096) vm_X2_of (by decide) rfl c10 rfl (room_of sc_nil (Nat.le_of_ble_eq_true rfl)) dX2_leg_27 (fun r9 Gr9 br9 sr9 F => ?_)
        refine g_goto 38 dX2_leg_30 (by decide) ?_
        exact g_iret rfl dX2_leg_38 F
    · have F := F.2 h13
      refine g_iconst (v := (-1)) dX2_leg_17 (by decide) ?_
      exact g_iret rfl dX2_leg_18 F
theorem rX2_isLeg_0 {Γ : GE} {l : Launch} {h MC MS : Nat} {Q : Option Value → GH → Prop} {bc bs : Nat} {G : GH} (x : Nat) (p1 : Int32) (F : (gC G x = kO 1 ∧ ∃ a2, (gR G x 0) = some a2 ∧ gC G a2 = kA 0 ∧ vp_in 0 (gL G a2) ∧ cI Γ l h mX2_in [.int p1, .int 0, .int ((gI G a2 (0 : Int32).toNatClampNeg) - 1)] G bc bs fun r6 Gr6 br6 sr6 => narrow .boolean (.int r6) = .int r6 ∧ Q (some (.int r6)) Gr6)) : GW Γ l mX2_isLeg h MC MS Q 0 [(0, va_rf (some x)), (1, .int p1)] [] G bc bs := by
  refine g_iload_n dX2_isLeg_0 rfl 1 rfl ?_
  refine g_iconst (v := 0) dX2_isLeg_1 (by decide) ?_
  refine g_aload_n dX2_isLeg_2 rfl 0 rfl ?_
  obtain ⟨c1, F⟩ := F
  refine h_get (v := va_rf (gR G x 0)) 1 0 (C := RX2) (T := TX2) (N := 30) rfl in_X2 (by decide) q1989 (Or.inl rfl) rfl c1 rfl dX2_isLeg_3 ?_
  refine g_iconst (v := 0) dX2_isLeg_6 (by decide) ?_
  obtain ⟨a2, e3, F⟩ := F
  obtain ⟨c4, F⟩ := F
  obtain ⟨k5, F⟩ := F
  refine h_iald e3 c4 k5 dX2_isLeg_7 ?_
  refine g_iconst (v := 1) dX2_isLeg_8 (by decide) ?_
  refine g_isub dX2_isLeg_9 ?_
  refine h_callSI (As := [.int p1, .int 0, .int ((gI G a2 (0 : Int32).toNatClampNeg) - 1)]) (rest := []) F 3 rfl (lw_S q2085 q2086 q117 q2087) vm_X2_in.2 (by decide) rfl (room_of sc_nil (Nat.le_of_ble_eq_true rfl)) dX2_isLeg_10 (fun r6 Gr6 br6 sr6 F => ?_)
  obtain ⟨k8, F⟩ := F
  exact g_zret rfl k8 dX2_isLeg_13 F
theorem rX2_flierOf_0 {Γ : GE} {l : Launch} {h MC MS : Nat} {Q : Option Value → GH → Prop} {bc bs : Nat} {G : GH} (x : Nat) (p1 : Int32) (F : (GW Γ l mX2_flierOf h MC MS Q 2 [(0, va_rf (some x)), (1, .int p1), (2, .int 0)] [] G bc bs)) : GW Γ l mX2_flierOf h MC MS Q 0 [(0, va_rf (some x)), (1, .int p1)] [] G bc bs := by
  refine g_iconst (v := 0) dX2_flierOf_0 (by decide) ?_
  refine s_istore_n (lv' := [(0, va_rf (some x)), (1, .int p1), (2, .int 0)]) (cat_R (cat_I cat_nil)) dX2_flierOf_1 rfl (by decide) rfl [1, 2, 0] rfl ?_
  exact F
theorem rX2_flierOf_2 {Γ : GE} {l : Launch} {h MC MS : Nat} {Q : Option Value → GH → Prop} {bc bs : Nat} {G : GH} (x : Nat) (p1 : Int32) (p2 : Int32) (F : (gC G x = kO 1 ∧ ∃ a2, (gR G x 0) = some a2 ∧ gC G a2 = kA 0 ∧ vp_in 1 (gL G a2) ∧ (((gI G a2 (1 : Int32).toNatClampNeg) ≤ p2 → (Q (some (.int (-2))) G)) ∧ (¬ (gI G a2 (1 : Int32).toNatClampNeg) ≤ p2 → (cI Γ l h mX2_placeIn [.ref x, .int p2, .int p1] G bc bs fun r6 Gr6 br6 sr6 => ((r6 < 0 → (GW Γ l mX2_flierOf h MC MS Q 2 [(0, va_rf (some x)), (1, .int p1), (2, .int (p2 + 1))] [] Gr6 br6 sr6)) ∧ (¬ r6 < 0 → (gC Gr6 x = kO 1 ∧ cI Γ l h mX2_ofCrew [.ref x, .int p2, .int (4 + r6)] Gr6 br6 sr6 fun r8 Gr8 br8 sr8 => ((¬ (r8 - r8 / 2 * 2) = 1 → (GW Γ l mX2_flierOf h MC MS Q 2 [(0, va_rf (some x)), (1, .int p1), (2, .int (p2 + 1))] [] Gr8 br8 sr8)) ∧ ((r8 - r8 / 2 * 2) = 1 → (Q (some (.int p2)) Gr8))))))))))) : GW Γ l mX2_flierOf h MC MS Q 2 [(0, va_rf (some x)), (1, .int p1), (2, .int p2)] [] G bc bs := by
  refine g_iload_n dX2_flierOf_2 rfl 2 rfl ?_
  refine g_aload_n dX2_flierOf_3 rfl 0 rfl ?_
  obtain ⟨c1, F⟩ := F
  refine h_get (v := va_rf (gR G x 0)) 1 0 (C := RX2) (T := TX2) (N := 30) rfl in_X2 (by decide) q1989 (Or.inl rfl) rfl c1 rfl dX2_flierOf_4 ?_
  refine g_iconst (v := 1) dX2_flierOf_7 (by decide) ?_
  obtain ⟨a2, e3, F⟩ := F
  obtain ⟨c4, F⟩ := F
  obtain ⟨k5, F⟩ := F
  refine h_iald e3 c4 k5 dX2_flierOf_8 ?_
  refine g_icmp_ge 45 dX2_flierOf_9 (by decide) (fun h13 => ?_) (fun h13 => ?_)
  · have F := F.1 h13
    refine g_bipush (v := (-2)) dX2_flierOf_45 (by decide) ?_
    exact g_iret rfl dX2_flierOf_47 F
  · have F := F.2 h13
    refine g_aload_n dX2_flierOf_12 rfl 0 rfl ?_
    refine g_iload_n dX2_flierOf_13 rfl 2 rfl ?_
    refine g_iload_n dX2_flierOf_14 rfl 1 rfl ?_
    refine h_callVI (ci := 1) (C := RX2) (T := TX2) (N := 30) (As := [.int p2, .int p1]) (rest := []) F 2 rfl rfl (lw_V q2132 q2134 qs59 q117 q2135) vm_X2_placeIn (by decide) rfl c1 rfl (room_of sc_nil (Nat.le_of_ble_eq_true rfl)) dX2_flierOf_15 (fun r6 Gr6 br6 sr6 F => ?_)
    refine s_istore_n (lv' := [(0, va_rf (some x)), (1, .int p1), (2, .int p2), (3, .int r6)]) (cat_R (cat_I (cat_I cat_nil))) dX2_flierOf_18 rfl (by decide) rfl [1, 2, 3, 0] rfl ?_
    refine g_iload_n dX2_flierOf_19 rfl 3 rfl ?_
    refine g_if_lt 39 dX2_flierOf_20 (by decide) (fun h12 => ?_) (fun h12 => ?_)
    · have F := F.1 h12
      refine s_iinc (v := (p2 + 1)) (lv' := [(0, va_rf (some x)), (1, .int p1), (2, .int (p2 + 1)), (3, .int r6)]) (cat_R (cat_I (cat_I (cat_I cat_nil)))) dX2_flierOf_39 (k0 := 2) rfl rfl (by decide) rfl [1, 2, 0, 3] rfl ?_
      refine g_goto 2 dX2_flierOf_42 (by decide) ?_
      refine GW.lsub (lv' := [(0, va_rf (some x)), (1, .int p1), (2, .int (p2 + 1))]) [0, 1, 2] rfl ?_
      exact F
    · have F := F.2 h12
      refine g_aload_n dX2_flierOf_23 rfl 0 rfl ?_
      refine g_iload_n dX2_flierOf_24 rfl 2 rfl ?_
      refine g_iconst (v := 4) dX2_flierOf_25 (by decide) ?_
      refine g_iload_n dX2_flierOf_26 rfl 3 rfl ?_
      refine g_iadd dX2_flierOf_27 ?_
      obtain ⟨c9, F⟩ := F
      refine h_callVI (ci := 1) (C := RX2) (T := TX2) (N := 30) (As := [.int p2, .int (4 + r6)]) (rest := []) F 2 rfl rfl (lw_V q2136 q2138 qs60 q117 q2139) vm_X2_ofCrew (by decide) rfl c9 rfl (room_of sc_nil (Nat.le_of_ble_eq_true rfl)) dX2_flierOf_28 (fun r8 Gr8 br8 sr8 F => ?_)
      refine g_iconst (v := 2) dX2_flierOf_31 (by decide) ?_
      refine g_irem dX2_flierOf_32 (by decide) ?_
      refine g_iconst (v := 1) dX2_flierOf_33 (by decide) ?_
      refine g_icmp_ne 39 dX2_flierOf_34 (by decide) (fun h11 => ?_) (fun h11 => ?_)
      · have F := F.1 h11
        refine s_iinc (v := (p2 + 1)) (lv' := [(0, va_rf (some x)), (1, .int p1), (2, .int (p2 + 1)), (3, .int r6)]) (cat_R (cat_I (cat_I (cat_I cat_nil)))) dX2_flierOf_39 (k0 := 2) rfl rfl (by decide) rfl [1, 2, 0, 3] rfl ?_
        refine g_goto 2 dX2_flierOf_42 (by decide) ?_
        refine GW.lsub (lv' := [(0, va_rf (some x)), (1, .int p1), (2, .int (p2 + 1))]) [0, 1, 2] rfl ?_
        exact F
      · have F := F.2 h11
        refine g_iload_n dX2_flierOf_37 rfl 2 rfl ?_
        exact g_iret rfl dX2_flierOf_38 F
theorem rX2_placeIn_0 {Γ : GE} {l : Launch} {h MC MS : Nat} {Q : Option Value → GH → Prop} {bc bs : Nat} {G : GH} (x : Nat) (p1 : Int32) (p2 : Int32) (F : (GW Γ l mX2_placeIn h MC MS Q 2 [(0, va_rf (some x)), (1, .int p1), (2, .int p2), (3, .int 0)] [] G bc bs)) : GW Γ l mX2_placeIn h MC MS Q 0 [(0, va_rf (some x)), (1, .int p1), (2, .int p2)] [] G bc bs := by
  refine g_iconst (v := 0) dX2_placeIn_0 (by decide) ?_
  refine s_istore_n (lv' := [(0, va_rf (some x)), (1, .int p1), (2, .int p2), (3, .int 0)]) (cat_R (cat_I (cat_I cat_nil))) dX2_placeIn_1 rfl (by decide) rfl [1, 2, 3, 0] rfl ?_
  exact F
theorem rX2_placeIn_2 {Γ : GE} {l : Launch} {h MC MS : Nat} {Q : Option Value → GH → Prop} {bc bs : Nat} {G : GH} (x : Nat) (p1 : Int32) (p2 : Int32) (p3 : Int32) (F : (gC G x = kO 1 ∧ cI Γ l h mX2_ofCrew [.ref x, .int p1, .int 3] G bc bs fun r1 Gr1 br1 sr1 => ((r1 ≤ p3 → (Q (some (.int (-1))) Gr1)) ∧ (¬ r1 ≤ p3 → (gC Gr1 x = kO 1 ∧ cI Γ l h mX2_ofCrew [.ref x, .int p1, .int (4 + p3)] Gr1 br1 sr1 fun r4 Gr4 br4 sr4 => ((¬ (r4 / 2) = p2 → (GW Γ l mX2_placeIn h MC MS Q 2 [(0, va_rf (some x)), (1, .int p1), (2, .int p2), (3, .int (p3 + 1))] [] Gr4 br4 sr4)) ∧ ((r4 / 2) = p2 → (Q (some (.int p3)) Gr4)))))))) : GW Γ l mX2_placeIn h MC MS Q 2 [(0, va_rf (some x)), (1, .int p1), (2, .int p2), (3, .int p3)] [] G bc bs := by
  refine g_iload_n dX2_placeIn_2 rfl 3 rfl ?_
  refine g_aload_n dX2_placeIn_3 rfl 0 rfl ?_
  refine g_iload_n dX2_placeIn_4 rfl 1 rfl ?_
  refine g_iconst (v := 3) dX2_placeIn_5 (by decide) ?_
  obtain ⟨c2, F⟩ := F
  refine h_callVI (ci := 1) (C := RX2) (T := TX2) (N := 30) (As := [.int p1, .int 3]) (rest := [.int p3]) F 2 rfl rfl (lw_V q2136 q2138 qs60 q117 q2139) vm_X2_ofCrew (by decide) rfl c2 rfl (room_of (sc_I sc_nil) (Nat.le_of_ble_eq_true rfl)) dX2_placeIn_6 (fun r1 Gr1 br1 sr1 F => ?_)
  refine g_icmp_ge 34 dX2_placeIn_9 (by decide) (fun h8 => ?_) (fun h8 => ?_)
  · have F := F.1 h8
    refine g_iconst (v := (-1)) dX2_placeIn_34 (by decide) ?_
    exact g_iret rfl dX2_placeIn_35 F
  · have F := F.2 h8
    refine g_aload_n dX2_placeIn_12 rfl 0 rfl ?_
    refine g_iload_n dX2_placeIn_13 rfl 1 rfl ?_
    refine g_iconst (v := 4) dX2_placeIn_14 (by decide) ?_
    refine g_iload_n dX2_placeIn_15 rfl 3 rfl ?_
    refine g_iadd dX2_placeIn_16 ?_
    obtain ⟨c5, F⟩ := F
    refine h_callVI (ci := 1) (C := RX2) (T := TX2) (N := 30) (As := [.int p1, .int (4 + p3)]) (rest := []) F 2 rfl rfl (lw_V q2136 q2138 qs60 q117 q2139) vm_X2_ofCrew (by decide) rfl c5 rfl (room_of sc_nil (Nat.le_of_ble_eq_true rfl)) dX2_placeIn_17 (fun r4 Gr4 br4 sr4 F => ?_)
    refine g_iconst (v := 2) dX2_placeIn_20 (by decide) ?_
    refine g_idiv dX2_placeIn_21 (by decide) ?_
    refine g_iload_n dX2_placeIn_22 rfl 2 rfl ?_
    refine g_icmp_ne 28 dX2_placeIn_23 (by decide) (fun h7 => ?_) (fun h7 => ?_)
    · have F := F.1 h7
      refine s_iinc (v := (p3 + 1)) (lv' := [(0, va_rf (some x)), (1, .int p1), (2, .int p2), (3, .int (p3 + 1))]) (cat_R (cat_I (cat_I (cat_I cat_nil)))) dX2_placeIn_28 (k0 := 3) rfl rfl (by decide) rfl [1, 2, 3, 0] rfl ?_
      refine g_goto 2 dX2_placeIn_31 (by decide) ?_
      exact F
    · have F := F.2 h7
      refine g_iload_n dX2_placeIn_26 rfl 3 rfl ?_
      exact g_iret rfl dX2_placeIn_27 F
theorem rX2_ofCrew_0 {Γ : GE} {l : Launch} {h MC MS : Nat} {Q : Option Value → GH → Prop} {bc bs : Nat} {G : GH} (x : Nat) (p1 : Int32) (p2 : Int32) (F : (gC G x = kO 1 ∧ ∃ a2, (gR G x 0) = some a2 ∧ gC G a2 = kA 0 ∧ vp_in ((130 + (28 * p1)) + p2) (gL G a2) ∧ Q (some (.int (gI G a2 ((130 + (28 * p1)) + p2).toNatClampNeg))) G)) : GW Γ l mX2_ofCrew h MC MS Q 0 [(0, va_rf (some x)), (1, .int p1), (2, .int p2)] [] G bc bs := by
  refine g_aload_n dX2_ofCrew_0 rfl 0 rfl ?_
  obtain ⟨c1, F⟩ := F
  refine h_get (v := va_rf (gR G x 0)) 1 0 (C := RX2) (T := TX2) (N := 30) rfl in_X2 (by decide) q1989 (Or.inl rfl) rfl c1 rfl dX2_ofCrew_1 ?_
  refine g_sipush (v := 130) dX2_ofCrew_4 (by decide) ?_
  refine g_bipush (v := 28) dX2_ofCrew_7 (by decide) ?_
  refine g_iload_n dX2_ofCrew_9 rfl 1 rfl ?_
  refine g_imul dX2_ofCrew_10 ?_
  refine g_iadd dX2_ofCrew_11 ?_
  refine g_iload_n dX2_ofCrew_12 rfl 2 rfl ?_
  refine g_iadd dX2_ofCrew_13 ?_
  obtain ⟨a2, e3, F⟩ := F
  obtain ⟨c4, F⟩ := F
  obtain ⟨k5, F⟩ := F
  refine h_iald e3 c4 k5 dX2_ofCrew_14 ?_
  exact g_iret rfl dX2_ofCrew_15 F
theorem rX2_setRule_0 {Γ : GE} {l : Launch} {h MC MS : Nat} {Q : Option Value → GH → Prop} {bc bs : Nat} {G : GH} (x : Nat) (p1 : Int32) (p2 : Int32) (F : (cI Γ l h mX2_in [.int p1, .int 0, .int 7] G bc bs fun r1 Gr1 br1 sr1 => ((r1 = 0 → (Q (some (.int (-1))) Gr1)) ∧ (¬ r1 = 0 → (gC Gr1 (Γ.2.2.2 7) = kA 0 ∧ vp_in p1 (gL Gr1 (Γ.2.2.2 7)) ∧ gC Gr1 (Γ.2.2.2 8) = kA 0 ∧ vp_in p1 (gL Gr1 (Γ.2.2.2 8)) ∧ cI Γ l h mX2_in [.int p2, .int (gI Gr1 (Γ.2.2.2 7) p1.toNatClampNeg), .int (gI Gr1 (Γ.2.2.2 8) p1.toNatClampNeg)] Gr1 br1 sr1 fun r7 Gr7 br7 sr7 => ((¬ r7 = 0 → (gC Gr7 x = kO 1 ∧ cV Γ l h mX2_change [.ref x] Gr7 br7 sr7 fun Gr9 br9 sr9 => gC Gr9 x = kO 1 ∧ ∃ a13, (gR Gr9 x 0) = some a13 ∧ gC Gr9 a13 = kA 0 ∧ vp_in (2 + p1) (gL Gr9 a13) ∧ gM Gr9 a13 = true ∧ vp_in (2 + p1) (gL Gr9 a13) ∧ Q (some (.int (gI Gr9 a13 (2 + p1).toNatClampNeg))) (sI Gr9 a13 (2 + p1).toNatClampNeg p2))) ∧ (r7 = 0 → (Q (some (.int (-1))) Gr7)))))))) : GW Γ l mX2_setRule h MC MS Q 0 [(0, va_rf (some x)), (1, .int p1), (2, .int p2)] [] G bc bs := by
  refine g_iload_n dX2_setRule_0 rfl 1 rfl ?_
  refine g_iconst (v := 0) dX2_setRule_1 (by decide) ?_
  refine g_bipush (v := 7) dX2_setRule_2 (by decide) ?_
  refine h_callSI (As := [.int p1, .int 0, .int 7]) (rest := []) F 3 rfl (lw_S q2085 q2086 q117 q2087) vm_X2_in.2 (by decide) rfl (room_of sc_nil (Nat.le_of_ble_eq_true rfl)) dX2_setRule_4 (fun r1 Gr1 br1 sr1 F => ?_)
  refine g_if_eq 27 dX2_setRule_7 (by decide) (fun h20 => ?_) (fun h20 => ?_)
  · have F := F.1 h20
    refine g_iconst (v := (-1)) dX2_setRule_27 (by decide) ?_
    exact g_iret rfl dX2_setRule_28 F
  · have F := F.2 h20
    refine g_iload_n dX2_setRule_10 rfl 2 rfl ?_
    refine g_getsr (C := "CrewPairerModel") (n := "LEAST") (d := "[I") (i := 7) (by decide) q2144 rfl dX2_setRule_11 ?_
    refine g_iload_n dX2_setRule_14 rfl 1 rfl ?_
    obtain ⟨c3, F⟩ := F
    obtain ⟨k4, F⟩ := F
    refine h_iald rfl c3 k4 dX2_setRule_15 ?_
    refine g_getsr (C := "CrewPairerModel") (n := "MOST") (d := "[I") (i := 8) (by decide) q2146 rfl dX2_setRule_16 ?_
    refine g_iload_n dX2_setRule_19 rfl 1 rfl ?_
    obtain ⟨c5, F⟩ := F
    obtain ⟨k6, F⟩ := F
    refine h_iald rfl c5 k6 dX2_setRule_20 ?_
    refine h_callSI (As := [.int p2, .int (gI Gr1 (Γ.2.2.2 7) p1.toNatClampNeg), .int (gI Gr1 (Γ.2.2.2 8) p1.toNatClampNeg)]) (rest := []) F 3 rfl (lw_S q2085 q2086 q117 q2087) vm_X2_in.2 (by decide) rfl (room_of sc_nil (Nat.le_of_ble_eq_true rfl)) dX2_setRule_21 (fun r7 Gr7 br7 sr7 F => ?_)
    refine g_if_ne 29 dX2_setRule_24 (by decide) (fun h19 => ?_) (fun h19 => ?_)
    · have F := F.1 h19
      refine g_aload_n dX2_setRule_29 rfl 0 rfl ?_
      obtain ⟨c10, F⟩ := F
      refine h_callVV (ci := 1) (C := RX2) (T := TX2) (N := 30) (As := []) (rest := []) F 0 rfl rfl (lw_V q2097 q2099 qs55 q117 q2100) vm_X2_change (by decide) rfl c10 rfl (room_of sc_nil (Nat.le_of_ble_eq_true rfl)) dX2_setRule_30 (fun Gr9 br9 sr9 F => ?_)
      refine g_aload_n dX2_setRule_33 rfl 0 rfl ?_
      obtain ⟨c12, F⟩ := F
      refine h_get (v := va_rf (gR Gr9 x 0)) 1 0 (C := RX2) (T := TX2) (N := 30) rfl in_X2 (by decide) q1989 (Or.inl rfl) rfl c12 rfl dX2_setRule_34 ?_
      refine g_iconst (v := 2) dX2_setRule_37 (by decide) ?_
      refine g_iload_n dX2_setRule_38 rfl 1 rfl ?_
      refine g_iadd dX2_setRule_39 ?_
      obtain ⟨a13, e14, F⟩ := F
      obtain ⟨c15, F⟩ := F
      obtain ⟨k16, F⟩ := F
      refine h_iald e14 c15 k16 dX2_setRule_40 ?_
      refine s_istore_n (lv' := [(0, va_rf (some x)), (1, .int p1), (2, .int p2), (3, .int (gI Gr9 a13 (2 + p1).toNatClampNeg))]) (cat_R (cat_I (cat_I cat_nil))) dX2_setRule_41 rfl (by decide) rfl [1, 2, 3, 0] rfl ?_
      refine g_aload_n dX2_setRule_42 rfl 0 rfl ?_
      refine h_get (v := va_rf (gR Gr9 x 0)) 1 0 (C := RX2) (T := TX2) (N := 30) rfl in_X2 (by decide) q1989 (Or.inl rfl) rfl c12 rfl dX2_setRule_43 ?_
      refine g_iconst (v := 2) dX2_setRule_46 (by decide) ?_
      refine g_iload_n dX2_setRule_47 rfl 1 rfl ?_
      refine g_iadd dX2_setRule_48 ?_
      refine g_iload_n dX2_setRule_49 rfl 2 rfl ?_
      obtain ⟨m17, F⟩ := F
      obtain ⟨k18, F⟩ := F
      refine h_iast e14 c15 m17 k18 dX2_setRule_50 ?_
      refine g_iload_n dX2_setRule_51 rfl 3 rfl ?_
      exact g_iret rfl dX2_setRule_52 F
    · have F := F.2 h19
      refine g_iconst (v := (-1)) dX2_setRule_27 (by decide) ?_
      exact g_iret rfl dX2_setRule_28 F
theorem rX2_rule_0 {Γ : GE} {l : Launch} {h MC MS : Nat} {Q : Option Value → GH → Prop} {bc bs : Nat} {G : GH} (x : Nat) (p1 : Int32) (F : (cI Γ l h mX2_in [.int p1, .int 0, .int 7] G bc bs fun r1 Gr1 br1 sr1 => ((r1 = 0 → (Q (some (.int (-1))) Gr1)) ∧ (¬ r1 = 0 → (gC Gr1 x = kO 1 ∧ ∃ a4, (gR Gr1 x 0) = some a4 ∧ gC Gr1 a4 = kA 0 ∧ vp_in (2 + p1) (gL Gr1 a4) ∧ Q (some (.int (gI Gr1 a4 (2 + p1).toNatClampNeg))) Gr1))))) : GW Γ l mX2_rule h MC MS Q 0 [(0, va_rf (some x)), (1, .int p1)] [] G bc bs := by
  refine g_iload_n dX2_rule_0 rfl 1 rfl ?_
  refine g_iconst (v := 0) dX2_rule_1 (by decide) ?_
  refine g_bipush (v := 7) dX2_rule_2 (by decide) ?_
  refine h_callSI (As := [.int p1, .int 0, .int 7]) (rest := []) F 3 rfl (lw_S q2085 q2086 q117 q2087) vm_X2_in.2 (by decide) rfl (room_of sc_nil (Nat.le_of_ble_eq_true rfl)) dX2_rule_4 (fun r1 Gr1 br1 sr1 F => ?_)
  refine g_if_eq 21 dX2_rule_7 (by decide) (fun h8 => ?_) (fun h8 => ?_)
  · have F := F.1 h8
    refine g_iconst (v := (-1)) dX2_rule_21 (by decide) ?_
    exact g_iret rfl dX2_rule_22 F
  · have F := F.2 h8
    refine g_aload_n dX2_rule_10 rfl 0 rfl ?_
    obtain ⟨c3, F⟩ := F
    refine h_get (v := va_rf (gR Gr1 x 0)) 1 0 (C := RX2) (T := TX2) (N := 30) rfl in_X2 (by decide) q1989 (Or.inl rfl) rfl c3 rfl dX2_rule_11 ?_
    refine g_iconst (v := 2) dX2_rule_14 (by decide) ?_
    refine g_iload_n dX2_rule_15 rfl 1 rfl ?_
    refine g_iadd dX2_rule_16 ?_
    obtain ⟨a4, e5, F⟩ := F
    obtain ⟨c6, F⟩ := F
    obtain ⟨k7, F⟩ := F
    refine h_iald e5 c6 k7 dX2_rule_17 ?_
    refine g_goto 22 dX2_rule_18 (by decide) ?_
    exact g_iret rfl dX2_rule_22 F
theorem rX2_fly_0 {Γ : GE} {l : Launch} {h MC MS : Nat} {Q : Option Value → GH → Prop} {bc bs : Nat} {G : GH} (x : Nat) (p1 : Int32) (p2 : Int32) (F : (gC G x = kO 1 ∧ cI Γ l h mX2_assign [.ref x, .int p1, .int p2, .int 1] G bc bs fun r1 Gr1 br1 sr1 => Q (some (.int r1)) Gr1)) : GW Γ l mX2_fly h MC MS Q 0 [(0, va_rf (some x)), (1, .int p1), (2, .int p2)] [] G bc bs := by
  refine g_aload_n dX2_fly_0 rfl 0 rfl ?_
  refine g_iload_n dX2_fly_1 rfl 1 rfl ?_
  refine g_iload_n dX2_fly_2 rfl 2 rfl ?_
  refine g_iconst (v := 1) dX2_fly_3 (by decide) ?_
  obtain ⟨c2, F⟩ := F
  refine h_callVI (ci := 1) (C := RX2) (T := TX2) (N := 30) (As := [.int p1, .int p2, .int 1]) (rest := []) F 3 rfl rfl (lw_V q2156 q2158 qs61 q117 q2159) vm_X2_assign (by decide) rfl c2 rfl (room_of sc_nil (Nat.le_of_ble_eq_true rfl)) dX2_fly_4 (fun r1 Gr1 br1 sr1 F => ?_)
  exact g_iret rfl dX2_fly_7 F
theorem rX2_assign_0 {Γ : GE} {l : Launch} {h MC MS : Nat} {Q : Option Value → GH → Prop} {bc bs : Nat} {G : GH} (x : Nat) (p1 : Int32) (p2 : Int32) (p3 : Int32) (F : (gC G x = kO 1 ∧ cI Γ l h mX2_isCrew [.ref x, .int p1] G bc bs fun r1 Gr1 br1 sr1 => ((r1 = 0 → (Q (some (.int (-1))) Gr1)) ∧ (¬ r1 = 0 → (gC Gr1 x = kO 1 ∧ cI Γ l h mX2_isLeg [.ref x, .int p2] Gr1 br1 sr1 fun r4 Gr4 br4 sr4 => ((¬ r4 = 0 → (gC Gr4 x = kO 1 ∧ cI Γ l h mX2_hinders [.ref x, .int p1, .int p2, .int p3] Gr4 br4 sr4 fun r7 Gr7 br7 sr7 => ((r7 ≤ 0 → (gC Gr7 x = kO 1 ∧ cV Γ l h mX2_change [.ref x] Gr7 br7 sr7 fun Gr10 br10 sr10 => gC Gr10 x = kO 1 ∧ cI Γ l h mX2_enter [.ref x, .int p1, .int p2, .int p3] Gr10 br10 sr10 fun r13 Gr13 br13 sr13 => Q (some (.int r13)) Gr13)) ∧ (¬ r7 ≤ 0 → (Q (some (.int ((-100) - (r7 / 100)))) Gr7))))) ∧ (r4 = 0 → (Q (some (.int (-1))) Gr4)))))))) : GW Γ l mX2_assign h MC MS Q 0 [(0, va_rf (some x)), (1, .int p1), (2, .int p2), (3, .int p3)] [] G bc bs := by
  refine g_aload_n dX2_assign_0 rfl 0 rfl ?_
  refine g_iload_n dX2_assign_1 rfl 1 rfl ?_
  obtain ⟨c2, F⟩ := F
  refine h_callVI (ci := 1) (C := RX2) (T := TX2) (N := 30) (As := [.int p1]) (rest := []) F 1 rfl rfl (lw_V q2160 q2162 qs62 q117 q2163) vm_X2_isCrew (by decide) rfl c2 rfl (room_of sc_nil (Nat.le_of_ble_eq_true rfl)) dX2_assign_2 (fun r1 Gr1 br1 sr1 F => ?_)
  refine g_if_eq 16 dX2_assign_5 (by decide) (fun h18 => ?_) (fun h18 => ?_)
  · have F := F.1 h18
    refine g_iconst (v := (-1)) dX2_assign_16 (by decide) ?_
    exact g_iret rfl dX2_assign_17 F
  · have F := F.2 h18
    refine g_aload_n dX2_assign_8 rfl 0 rfl ?_
    refine g_iload_n dX2_assign_9 rfl 2 rfl ?_
    obtain ⟨c5, F⟩ := F
    refine h_callVI (ci := 1) (C := RX2) (T := TX2) (N := 30) (As := [.int p2]) (rest := []) F 1 rfl rfl (lw_V q2124 q2126 qs57 q117 q2127) vm_X2_isLeg (by decide) rfl c5 rfl (room_of sc_nil (Nat.le_of_ble_eq_true rfl)) dX2_assign_10 (fun r4 Gr4 br4 sr4 F => ?_)
    refine g_if_ne 18 dX2_assign_13 (by decide) (fun h17 => ?_) (fun h17 => ?_)
    · have F := F.1 h17
      refine g_aload_n dX2_assign_18 rfl 0 rfl ?_
      refine g_iload_n dX2_assign_19 rfl 1 rfl ?_
      refine g_iload_n dX2_assign_20 rfl 2 rfl ?_
      refine g_iload_n dX2_assign_21 rfl 3 rfl ?_
      obtain ⟨c8, F⟩ := F
      refine h_callVI (ci := 1) (C := RX2) (T := TX2) (N := 30) (As := [.int p1, .int p2, .int p3]) (rest := []) F 3 rfl rfl (lw_V q2164 q2166 qs63 q117 q2167) vm_X2_hinders (by decide) rfl c8 rfl (room_of sc_nil (Nat.le_of_ble_eq_true rfl)) dX2_assign_22 (fun r7 Gr7 br7 sr7 F => ?_)
      refine s_istore (lv' := [(0, va_rf (some x)), (1, .int p1), (2, .int p2), (3, .int p3), (4, .int r7)]) (cat_R (cat_I (cat_I (cat_I cat_nil)))) dX2_assign_25 (by decide) rfl [1, 2, 3, 4, 0] rfl ?_
      refine g_iload dX2_assign_27 4 rfl ?_
      refine g_if_le 41 dX2_assign_29 (by decide) (fun h16 => ?_) (fun h16 => ?_)
      · have F := F.1 h16
        refine g_aload_n dX2_assign_41 rfl 0 rfl ?_
        obtain ⟨c11, F⟩ := F
        refine h_callVV (ci := 1) (C := RX2) (T := TX2) (N := 30) (As := []) (rest := []) F 0 rfl rfl (lw_V q2097 q2099 qs55 q117 q2100) vm_X2_change (by decide) rfl c11 rfl (room_of sc_nil (Nat.le_of_ble_eq_true rfl)) dX2_assign_42 (fun Gr10 br10 sr10 F => ?_)
        refine g_aload_n dX2_assign_45 rfl 0 rfl ?_
        refine g_iload_n dX2_assign_46 rfl 1 rfl ?_
        refine g_iload_n dX2_assign_47 rfl 2 rfl ?_
        refine g_iload_n dX2_assign_48 rfl 3 rfl ?_
        obtain ⟨c14, F⟩ := F
        refine h_callVI (ci := 1) (C := RX2) (T := TX2) (N := 30) (As := [.int p1, .int p2, .int p3]) (rest := []) F 3 rfl rfl (lw_V q2229 q2231 qs79 q117 q2232) vm_X2_enter (by decide) rfl c14 rfl (room_of sc_nil (Nat.le_of_ble_eq_true rfl)) dX2_assign_49 (fun r13 Gr13 br13 sr13 F => ?_)
        exact g_iret rfl dX2_assign_52 F
      · have F := F.2 h16
        refine g_bipush (v := (-100)) dX2_assign_32 (by decide) ?_
        refine g_iload dX2_assign_34 4 rfl ?_
        refine g_bipush (v := 100) dX2_assign_36 (by decide) ?_
        refine g_idiv dX2_assign_38 (by decide) ?_
        refine g_isub dX2_assign_39 ?_
        exact g_iret rfl dX2_assign_40 F
    · have F := F.2 h17
      refine g_iconst (v := (-1)) dX2_assign_16 (by decide) ?_
      exact g_iret rfl dX2_assign_17 F
theorem rX2_isCrew_0 {Γ : GE} {l : Launch} {h MC MS : Nat} {Q : Option Value → GH → Prop} {bc bs : Nat} {G : GH} (x : Nat) (p1 : Int32) (F : (gC G x = kO 1 ∧ ∃ a2, (gR G x 0) = some a2 ∧ gC G a2 = kA 0 ∧ vp_in 1 (gL G a2) ∧ cI Γ l h mX2_in [.int p1, .int 0, .int ((gI G a2 (1 : Int32).toNatClampNeg) - 1)] G bc bs fun r6 Gr6 br6 sr6 => narrow .boolean (.int r6) = .int r6 ∧ Q (some (.int r6)) Gr6)) : GW Γ l mX2_isCrew h MC MS Q 0 [(0, va_rf (some x)), (1, .int p1)] [] G bc bs := by
  refine g_iload_n dX2_isCrew_0 rfl 1 rfl ?_
  refine g_iconst (v := 0) dX2_isCrew_1 (by decide) ?_
  refine g_aload_n dX2_isCrew_2 rfl 0 rfl ?_
  obtain ⟨c1, F⟩ := F
  refine h_get (v := va_rf (gR G x 0)) 1 0 (C := RX2) (T := TX2) (N := 30) rfl in_X2 (by decide) q1989 (Or.inl rfl) rfl c1 rfl dX2_isCrew_3 ?_
  refine g_iconst (v := 1) dX2_isCrew_6 (by decide) ?_
  obtain ⟨a2, e3, F⟩ := F
  obtain ⟨c4, F⟩ := F
  obtain ⟨k5, F⟩ := F
  refine h_iald e3 c4 k5 dX2_isCrew_7 ?_
  refine g_iconst (v := 1) dX2_isCrew_8 (by decide) ?_
  refine g_isub dX2_isCrew_9 ?_
  refine h_callSI (As := [.int p1, .int 0, .int ((gI G a2 (1 : Int32).toNatClampNeg) - 1)]) (rest := []) F 3 rfl (lw_S q2085 q2086 q117 q2087) vm_X2_in.2 (by decide) rfl (room_of sc_nil (Nat.le_of_ble_eq_true rfl)) dX2_isCrew_10 (fun r6 Gr6 br6 sr6 F => ?_)
  obtain ⟨k8, F⟩ := F
  exact g_zret rfl k8 dX2_isCrew_13 F
theorem rX2_hinders_0 {Γ : GE} {l : Launch} {h MC MS : Nat} {Q : Option Value → GH → Prop} {bc bs : Nat} {G : GH} (x : Nat) (p1 : Int32) (p2 : Int32) (p3 : Int32) (F : (gC G x = kO 1 ∧ cV Γ l h mX2_take [.ref x, .int p1] G bc bs fun Gr1 br1 sr1 => gC Gr1 x = kO 1 ∧ cI Γ l h mX2_hinders_2 [.ref x, .int p2, .int p3] Gr1 br1 sr1 fun r4 Gr4 br4 sr4 => Q (some (.int r4)) Gr4)) : GW Γ l mX2_hinders h MC MS Q 0 [(0, va_rf (some x)), (1, .int p1), (2, .int p2), (3, .int p3)] [] G bc bs := by
  refine g_aload_n dX2_hinders_0 rfl 0 rfl ?_
  refine g_iload_n dX2_hinders_1 rfl 1 rfl ?_
  obtain ⟨c2, F⟩ := F
  refine h_callVV (ci := 1) (C := RX2) (T := TX2) (N := 30) (As := [.int p1]) (rest := []) F 1 rfl rfl (lw_V q2168 q2170 qs64 q117 q2171) vm_X2_take (by decide) rfl c2 rfl (room_of sc_nil (Nat.le_of_ble_eq_true rfl)) dX2_hinders_2 (fun Gr1 br1 sr1 F => ?_)
  refine g_aload_n dX2_hinders_5 rfl 0 rfl ?_
  refine g_iload_n dX2_hinders_6 rfl 2 rfl ?_
  refine g_iload_n dX2_hinders_7 rfl 3 rfl ?_
  obtain ⟨c5, F⟩ := F
  refine h_callVI (ci := 1) (C := RX2) (T := TX2) (N := 30) (As := [.int p2, .int p3]) (rest := []) F 2 rfl rfl (lw_V q2172 q2174 qs65 q117 q2175) vm_X2_hinders_2 (by decide) rfl c5 rfl (room_of sc_nil (Nat.le_of_ble_eq_true rfl)) dX2_hinders_8 (fun r4 Gr4 br4 sr4 F => ?_)
  exact g_iret rfl dX2_hinders_11 F
theorem rX2_take_0 {Γ : GE} {l : Launch} {h MC MS : Nat} {Q : Option Value → GH → Prop} {bc bs : Nat} {G : GH} (x : Nat) (p1 : Int32) (F : (gC G x = kO 1 ∧ cI Γ l h mX2_ofCrew [.ref x, .int p1, .int 3] G bc bs fun r1 Gr1 br1 sr1 => gC Gr1 x = kO 1 ∧ gM Gr1 x = true ∧ cI Γ l h mX2_ofCrew [.ref x, .int p1, .int 0] (sI Gr1 x 8 r1) br1 sr1 fun r6 Gr6 br6 sr6 => gC Gr6 x = kO 1 ∧ gM Gr6 x = true ∧ cI Γ l h mX2_crewAt [.int p1, .int 4] (sI Gr6 x 9 r6) br6 sr6 fun r10 Gr10 br10 sr10 => gC Gr10 x = kO 1 ∧ ∃ a13, (gR (sI Gr6 x 9 r6) x 0) = some a13 ∧ gC Gr10 a13 = kA 0 ∧ gM Gr10 a13 = true ∧ ∃ a17, (gR Gr10 x 7) = some a17 ∧ gC Gr10 a17 = kA 0 ∧ gM Gr10 a17 = true ∧ ¬ r10 < 0 ∧ ¬ (gI Gr10 x 8) < 0 ∧ r10.toNatClampNeg + (gI Gr10 x 8).toNatClampNeg ≤ gL Gr10 a13 ∧ (0 : Int32).toNatClampNeg + (gI Gr10 x 8).toNatClampNeg ≤ gL Gr10 a17 ∧ 0 < h ∧ ∀ H26, H26 = (wI Gr10 a17 (va_cpy (gI Gr10 a13) (gI Gr10 a17) r10.toNatClampNeg (0 : Int32).toNatClampNeg (gI Gr10 x 8).toNatClampNeg)) → Q none H26)) : GW Γ l mX2_take h MC MS Q 0 [(0, va_rf (some x)), (1, .int p1)] [] G bc bs := by
  refine g_aload_n dX2_take_0 rfl 0 rfl ?_
  refine g_aload_n dX2_take_1 rfl 0 rfl ?_
  refine g_iload_n dX2_take_2 rfl 1 rfl ?_
  refine g_iconst (v := 3) dX2_take_3 (by decide) ?_
  obtain ⟨c2, F⟩ := F
  refine h_callVI (ci := 1) (C := RX2) (T := TX2) (N := 30) (As := [.int p1, .int 3]) (rest := [va_rf (some x)]) F 2 rfl rfl (lw_V q2136 q2138 qs60 q117 q2139) vm_X2_ofCrew (by decide) rfl c2 rfl (room_of (sc_R sc_nil) (Nat.le_of_ble_eq_true rfl)) dX2_take_4 (fun r1 Gr1 br1 sr1 F => ?_)
  obtain ⟨c4, F⟩ := F
  obtain ⟨m5, F⟩ := F
  refine h_putI (mi := mX2_take) 1 8 (C := RX2) (T := TX2) (N := 30) rfl in_X2 tyX2_ok nmX2 (by decide) q1997 (Or.inl rfl) (Or.inl rfl) rfl rfl c4 m5 rfl rfl dX2_take_7 ?_
  refine g_aload_n dX2_take_10 rfl 0 rfl ?_
  refine g_aload_n dX2_take_11 rfl 0 rfl ?_
  refine g_iload_n dX2_take_12 rfl 1 rfl ?_
  refine g_iconst (v := 0) dX2_take_13 (by decide) ?_
  refine h_callVI (ci := 1) (C := RX2) (T := TX2) (N := 30) (As := [.int p1, .int 0]) (rest := [va_rf (some x)]) F 2 rfl rfl (lw_V q2136 q2138 qs60 q117 q2139) vm_X2_ofCrew (by decide) rfl c4 rfl (room_of (sc_R sc_nil) (Nat.le_of_ble_eq_true rfl)) dX2_take_14 (fun r6 Gr6 br6 sr6 F => ?_)
  obtain ⟨c8, F⟩ := F
  obtain ⟨m9, F⟩ := F
  refine h_putI (mi := mX2_take) 1 9 (C := RX2) (T := TX2) (N := 30) rfl in_X2 tyX2_ok nmX2 (by decide) q1998 (Or.inl rfl) (Or.inl rfl) rfl rfl c8 m9 rfl rfl dX2_take_17 ?_
  refine g_aload_n dX2_take_20 rfl 0 rfl ?_
  refine h_get (v := va_rf (gR (sI Gr6 x 9 r6) x 0)) 1 0 (C := RX2) (T := TX2) (N := 30) rfl in_X2 (by decide) q1989 (Or.inl rfl) rfl c8 rfl dX2_take_21 ?_
  refine g_iload_n dX2_take_24 rfl 1 rfl ?_
  refine g_iconst (v := 4) dX2_take_25 (by decide) ?_
  refine h_callSI (As := [.int p1, .int 4]) (rest := [va_rf (gR (sI Gr6 x 9 r6) x 0)]) F 2 rfl (lw_S q2109 q2110 q117 q2111) vm_X2_crewAt.2 (by decide) rfl (room_of (sc_R sc_nil) (Nat.le_of_ble_eq_true rfl)) dX2_take_26 (fun r10 Gr10 br10 sr10 F => ?_)
  refine g_aload_n dX2_take_29 rfl 0 rfl ?_
  obtain ⟨c12, F⟩ := F
  refine h_get (v := va_rf (gR Gr10 x 7)) 1 7 (C := RX2) (T := TX2) (N := 30) rfl in_X2 (by decide) q1996 (Or.inl rfl) rfl c12 rfl dX2_take_30 ?_
  refine g_iconst (v := 0) dX2_take_33 (by decide) ?_
  refine g_aload_n dX2_take_34 rfl 0 rfl ?_
  refine h_get (v := .int (gI Gr10 x 8)) 1 8 (C := RX2) (T := TX2) (N := 30) rfl in_X2 (by decide) q1997 (Or.inl rfl) rfl c12 rfl dX2_take_35 ?_
  obtain ⟨a13, e14, F⟩ := F
  obtain ⟨c15, F⟩ := F
  obtain ⟨m16, F⟩ := F
  obtain ⟨a17, e18, F⟩ := F
  obtain ⟨c19, F⟩ := F
  obtain ⟨m20, F⟩ := F
  obtain ⟨k21, F⟩ := F
  obtain ⟨k22, F⟩ := F
  obtain ⟨k23, F⟩ := F
  obtain ⟨k24, F⟩ := F
  obtain ⟨k25, F⟩ := F
  refine h_copyi 0 (by decide) q1988 q439 q438 q118 e14 c15 m16 e18 c19 m20 k21 (by decide) k22 k23 k24 (fun _ _ => rfl) k25 (room_of sc_nil (Nat.le_of_ble_eq_true rfl)) dX2_take_38 ?_
  obtain ⟨H26, h27⟩ : ∃ g : GH, g = (wI Gr10 a17 (va_cpy (gI Gr10 a13) (gI Gr10 a17) r10.toNatClampNeg (0 : Int32).toNatClampNeg (gI Gr10 x 8).toNatClampNeg)) := ⟨_, rfl⟩
  rw [← h27]
  have F := F H26 h27
  exact g_vret rfl dX2_take_41 F
theorem rX2_hinders_2_0 {Γ : GE} {l : Launch} {h MC MS : Nat} {Q : Option Value → GH → Prop} {bc bs : Nat} {G : GH} (x : Nat) (p1 : Int32) (p2 : Int32) (F : (gC G x = kO 1 ∧ cI Γ l h mX2_of [.ref x, .int p1, .int 4] G bc bs fun r1 Gr1 br1 sr1 => ((¬ r1 = 1 → (GW Γ l mX2_hinders_2 h MC MS Q 16 [(0, va_rf (some x)), (1, .int p1), (2, .int p2), (3, .int 0)] [] Gr1 br1 sr1)) ∧ (r1 = 1 → (Q (some (.int 1000)) Gr1))))) : GW Γ l mX2_hinders_2 h MC MS Q 0 [(0, va_rf (some x)), (1, .int p1), (2, .int p2)] [] G bc bs := by
  refine g_aload_n dX2_hinders_2_0 rfl 0 rfl ?_
  refine g_iload_n dX2_hinders_2_1 rfl 1 rfl ?_
  refine g_iconst (v := 4) dX2_hinders_2_2 (by decide) ?_
  obtain ⟨c2, F⟩ := F
  refine h_callVI (ci := 1) (C := RX2) (T := TX2) (N := 30) (As := [.int p1, .int 4]) (rest := []) F 2 rfl rfl (lw_V q2093 q2095 qs54 q117 q2096) vm_X2_of (by decide) rfl c2 rfl (room_of sc_nil (Nat.le_of_ble_eq_true rfl)) dX2_hinders_2_3 (fun r1 Gr1 br1 sr1 F => ?_)
  refine g_iconst (v := 1) dX2_hinders_2_6 (by decide) ?_
  refine g_icmp_ne 14 dX2_hinders_2_7 (by decide) (fun h4 => ?_) (fun h4 => ?_)
  · have F := F.1 h4
    refine g_iconst (v := 0) dX2_hinders_2_14 (by decide) ?_
    refine s_istore_n (lv' := [(0, va_rf (some x)), (1, .int p1), (2, .int p2), (3, .int 0)]) (cat_R (cat_I (cat_I cat_nil))) dX2_hinders_2_15 rfl (by decide) rfl [1, 2, 3, 0] rfl ?_
    exact F
  · have F := F.2 h4
    refine g_sipush (v := 1000) dX2_hinders_2_10 (by decide) ?_
    exact g_iret rfl dX2_hinders_2_13 F
theorem rX2_hinders_2_16 {Γ : GE} {l : Launch} {h MC MS : Nat} {Q : Option Value → GH → Prop} {bc bs : Nat} {G : GH} (x : Nat) (p1 : Int32) (p2 : Int32) (p3 : Int32) (F : (gC G x = kO 1 ∧ (((gI G x 8) ≤ p3 → ((p2 = 0 → (cI Γ l h mX2_put [.ref x, .int p1, .int p2] G bc bs fun r2 Gr2 br2 sr2 => gC Gr2 x = kO 1 ∧ cI Γ l h mX2_violationAt [.ref x, .int 0] Gr2 br2 sr2 fun r4 Gr4 br4 sr4 => gC Gr4 x = kO 1 ∧ cV Γ l h mX2_takeOut [.ref x, .int r2] Gr4 br4 sr4 fun Gr7 br7 sr7 => Q (some (.int r4)) Gr7)) ∧ (¬ p2 = 0 → (cI Γ l h mX2_flierOf [.ref x, .int p1] G bc bs fun r10 Gr10 br10 sr10 => ((r10 < 0 → (gC Gr10 x = kO 1 ∧ cI Γ l h mX2_put [.ref x, .int p1, .int p2] Gr10 br10 sr10 fun r12 Gr12 br12 sr12 => gC Gr12 x = kO 1 ∧ cI Γ l h mX2_violationAt [.ref x, .int 0] Gr12 br12 sr12 fun r15 Gr15 br15 sr15 => gC Gr15 x = kO 1 ∧ cV Γ l h mX2_takeOut [.ref x, .int r12] Gr15 br15 sr15 fun Gr18 br18 sr18 => Q (some (.int r15)) Gr18)) ∧ (¬ r10 < 0 → (Q (some (.int 800)) Gr10))))))) ∧ (¬ (gI G x 8) ≤ p3 → (cI Γ l h mX2_legAt [.ref x, .int p3] G bc bs fun r23 Gr23 br23 sr23 => ((¬ r23 = p1 → (GW Γ l mX2_hinders_2 h MC MS Q 16 [(0, va_rf (some x)), (1, .int p1), (2, .int p2), (3, .int (p3 + 1))] [] Gr23 br23 sr23)) ∧ (r23 = p1 → (Q (some (.int 900)) Gr23)))))))) : GW Γ l mX2_hinders_2 h MC MS Q 16 [(0, va_rf (some x)), (1, .int p1), (2, .int p2), (3, .int p3)] [] G bc bs := by
  refine g_iload_n dX2_hinders_2_16 rfl 3 rfl ?_
  refine g_aload_n dX2_hinders_2_17 rfl 0 rfl ?_
  obtain ⟨c1, F⟩ := F
  refine h_get (v := .int (gI G x 8)) 1 8 (C := RX2) (T := TX2) (N := 30) rfl in_X2 (by decide) q1997 (Or.inl rfl) rfl c1 rfl dX2_hinders_2_18 ?_
  refine g_icmp_ge 43 dX2_hinders_2_21 (by decide) (fun h26 => ?_) (fun h26 => ?_)
  · have F := F.1 h26
    refine g_iload_n dX2_hinders_2_43 rfl 2 rfl ?_
    refine g_if_eq 59 dX2_hinders_2_44 (by decide) (fun h22 => ?_) (fun h22 => ?_)
    · have F := F.1 h22
      refine g_aload_n dX2_hinders_2_59 rfl 0 rfl ?_
      refine g_iload_n dX2_hinders_2_60 rfl 1 rfl ?_
      refine g_iload_n dX2_hinders_2_61 rfl 2 rfl ?_
      refine h_callVI (ci := 1) (C := RX2) (T := TX2) (N := 30) (As := [.int p1, .int p2]) (rest := []) F 2 rfl rfl (lw_V q2180 q2182 qs67 q117 q2183) vm_X2_put (by decide) rfl c1 rfl (room_of sc_nil (Nat.le_of_ble_eq_true rfl)) dX2_hinders_2_62 (fun r2 Gr2 br2 sr2 F => ?_)
      refine s_istore_n (lv' := [(0, va_rf (some x)), (1, .int p1), (2, .int p2), (3, .int r2)]) (cat_R (cat_I (cat_I (cat_I cat_nil)))) dX2_hinders_2_65 rfl (by decide) rfl [1, 2, 3, 0] rfl ?_
      refine g_aload_n dX2_hinders_2_66 rfl 0 rfl ?_
      refine g_iconst (v := 0) dX2_hinders_2_67 (by decide) ?_
      obtain ⟨c5, F⟩ := F
      refine h_callVI (ci := 1) (C := RX2) (T := TX2) (N := 30) (As := [.int 0]) (rest := []) F 1 rfl rfl (lw_V q2184 q2186 qs68 q117 q2187) vm_X2_violationAt (by decide) rfl c5 rfl (room_of sc_nil (Nat.le_of_ble_eq_true rfl)) dX2_hinders_2_68 (fun r4 Gr4 br4 sr4 F => ?_)
      refine s_istore (lv' := [(0, va_rf (some x)), (1, .int p1), (2, .int p2), (3, .int r2), (4, .int r4)]) (cat_R (cat_I (cat_I (cat_I cat_nil)))) dX2_hinders_2_71 (by decide) rfl [1, 2, 3, 4, 0] rfl ?_
      refine g_aload_n dX2_hinders_2_73 rfl 0 rfl ?_
      refine g_iload_n dX2_hinders_2_74 rfl 3 rfl ?_
      obtain ⟨c8, F⟩ := F
      refine h_callVV (ci := 1) (C := RX2) (T := TX2) (N := 30) (As := [.int r2]) (rest := []) F 1 rfl rfl (lw_V q2225 q2227 qs78 q117 q2228) vm_X2_takeOut (by decide) rfl c8 rfl (room_of sc_nil (Nat.le_of_ble_eq_true rfl)) dX2_hinders_2_75 (fun Gr7 br7 sr7 F => ?_)
      refine g_iload dX2_hinders_2_78 4 rfl ?_
      exact g_iret rfl dX2_hinders_2_80 F
    · have F := F.2 h22
      refine g_aload_n dX2_hinders_2_47 rfl 0 rfl ?_
      refine g_iload_n dX2_hinders_2_48 rfl 1 rfl ?_
      refine h_callVI (ci := 1) (C := RX2) (T := TX2) (N := 30) (As := [.int p1]) (rest := []) F 1 rfl rfl (lw_V q2128 q2130 qs58 q117 q2131) vm_X2_flierOf (by decide) rfl c1 rfl (room_of sc_nil (Nat.le_of_ble_eq_true rfl)) dX2_hinders_2_49 (fun r10 Gr10 br10 sr10 F => ?_)
      refine g_if_lt 59 dX2_hinders_2_52 (by decide) (fun h21 => ?_) (fun h21 => ?_)
      · have F := F.1 h21
        refine g_aload_n dX2_hinders_2_59 rfl 0 rfl ?_
        refine g_iload_n dX2_hinders_2_60 rfl 1 rfl ?_
        refine g_iload_n dX2_hinders_2_61 rfl 2 rfl ?_
        obtain ⟨c13, F⟩ := F
        refine h_callVI (ci := 1) (C := RX2) (T := TX2) (N := 30) (As := [.int p1, .int p2]) (rest := []) F 2 rfl rfl (lw_V q2180 q2182 qs67 q117 q2183) vm_X2_put (by decide) rfl c13 rfl (room_of sc_nil (Nat.le_of_ble_eq_true rfl)) dX2_hinders_2_62 (fun r12 Gr12 br12 sr12 F => ?_)
        refine s_istore_n (lv' := [(0, va_rf (some x)), (1, .int p1), (2, .int p2), (3, .int r12)]) (cat_R (cat_I (cat_I (cat_I cat_nil)))) dX2_hinders_2_65 rfl (by decide) rfl [1, 2, 3, 0] rfl ?_
        refine g_aload_n dX2_hinders_2_66 rfl 0 rfl ?_
        refine g_iconst (v := 0) dX2_hinders_2_67 (by decide) ?_
        obtain ⟨c16, F⟩ := F
        refine h_callVI (ci := 1) (C := RX2) (T := TX2) (N := 30) (As := [.int 0]) (rest := []) F 1 rfl rfl (lw_V q2184 q2186 qs68 q117 q2187) vm_X2_violationAt (by decide) rfl c16 rfl (room_of sc_nil (Nat.le_of_ble_eq_true rfl)) dX2_hinders_2_68 (fun r15 Gr15 br15 sr15 F => ?_)
        refine s_istore (lv' := [(0, va_rf (some x)), (1, .int p1), (2, .int p2), (3, .int r12), (4, .int r15)]) (cat_R (cat_I (cat_I (cat_I cat_nil)))) dX2_hinders_2_71 (by decide) rfl [1, 2, 3, 4, 0] rfl ?_
        refine g_aload_n dX2_hinders_2_73 rfl 0 rfl ?_
        refine g_iload_n dX2_hinders_2_74 rfl 3 rfl ?_
        obtain ⟨c19, F⟩ := F
        refine h_callVV (ci := 1) (C := RX2) (T := TX2) (N := 30) (As := [.int r12]) (rest := []) F 1 rfl rfl (lw_V q2225 q2227 qs78 q117 q2228) vm_X2_takeOut (by decide) rfl c19 rfl (room_of sc_nil (Nat.le_of_ble_eq_true rfl)) dX2_hinders_2_75 (fun Gr18 br18 sr18 F => ?_)
        refine g_iload dX2_hinders_2_78 4 rfl ?_
        exact g_iret rfl dX2_hinders_2_80 F
      · have F := F.2 h21
        refine g_sipush (v := 800) dX2_hinders_2_55 (by decide) ?_
        exact g_iret rfl dX2_hinders_2_58 F
  · have F := F.2 h26
    refine g_aload_n dX2_hinders_2_24 rfl 0 rfl ?_
    refine g_iload_n dX2_hinders_2_25 rfl 3 rfl ?_
    refine h_callVI (ci := 1) (C := RX2) (T := TX2) (N := 30) (As := [.int p3]) (rest := []) F 1 rfl rfl (lw_V q2176 q2178 qs66 q117 q2179) vm_X2_legAt (by decide) rfl c1 rfl (room_of sc_nil (Nat.le_of_ble_eq_true rfl)) dX2_hinders_2_26 (fun r23 Gr23 br23 sr23 F => ?_)
    refine g_iload_n dX2_hinders_2_29 rfl 1 rfl ?_
    refine g_icmp_ne 37 dX2_hinders_2_30 (by decide) (fun h25 => ?_) (fun h25 => ?_)
    · have F := F.1 h25
      refine s_iinc (v := (p3 + 1)) (lv' := [(0, va_rf (some x)), (1, .int p1), (2, .int p2), (3, .int (p3 + 1))]) (cat_R (cat_I (cat_I (cat_I cat_nil)))) dX2_hinders_2_37 (k0 := 3) rfl rfl (by decide) rfl [1, 2, 3, 0] rfl ?_
      refine g_goto 16 dX2_hinders_2_40 (by decide) ?_
      exact F
    · have F := F.2 h25
      refine g_sipush (v := 900) dX2_hinders_2_33 (by decide) ?_
      exact g_iret rfl dX2_hinders_2_36 F
theorem rX2_legAt_0 {Γ : GE} {l : Launch} {h MC MS : Nat} {Q : Option Value → GH → Prop} {bc bs : Nat} {G : GH} (x : Nat) (p1 : Int32) (F : (gC G x = kO 1 ∧ ∃ a2, (gR G x 7) = some a2 ∧ gC G a2 = kA 0 ∧ vp_in p1 (gL G a2) ∧ Q (some (.int ((gI G a2 p1.toNatClampNeg) / 2))) G)) : GW Γ l mX2_legAt h MC MS Q 0 [(0, va_rf (some x)), (1, .int p1)] [] G bc bs := by
  refine g_aload_n dX2_legAt_0 rfl 0 rfl ?_
  obtain ⟨c1, F⟩ := F
  refine h_get (v := va_rf (gR G x 7)) 1 7 (C := RX2) (T := TX2) (N := 30) rfl in_X2 (by decide) q1996 (Or.inl rfl) rfl c1 rfl dX2_legAt_1 ?_
  refine g_iload_n dX2_legAt_4 rfl 1 rfl ?_
  obtain ⟨a2, e3, F⟩ := F
  obtain ⟨c4, F⟩ := F
  obtain ⟨k5, F⟩ := F
  refine h_iald e3 c4 k5 dX2_legAt_5 ?_
  refine g_iconst (v := 2) dX2_legAt_6 (by decide) ?_
  refine g_idiv dX2_legAt_7 (by decide) ?_
  exact g_iret rfl dX2_legAt_8 F
theorem rX2_put_0 {Γ : GE} {l : Launch} {h MC MS : Nat} {Q : Option Value → GH → Prop} {bc bs : Nat} {G : GH} (x : Nat) (p1 : Int32) (p2 : Int32) (F : (gC G x = kO 1 ∧ GW Γ l mX2_put h MC MS Q 5 [(0, va_rf (some x)), (1, .int p1), (2, .int p2), (3, .int (gI G x 8))] [] G bc bs)) : GW Γ l mX2_put h MC MS Q 0 [(0, va_rf (some x)), (1, .int p1), (2, .int p2)] [] G bc bs := by
  refine g_aload_n dX2_put_0 rfl 0 rfl ?_
  obtain ⟨c1, F⟩ := F
  refine h_get (v := .int (gI G x 8)) 1 8 (C := RX2) (T := TX2) (N := 30) rfl in_X2 (by decide) q1997 (Or.inl rfl) rfl c1 rfl dX2_put_1 ?_
  refine s_istore_n (lv' := [(0, va_rf (some x)), (1, .int p1), (2, .int p2), (3, .int (gI G x 8))]) (cat_R (cat_I (cat_I cat_nil))) dX2_put_4 rfl (by decide) rfl [1, 2, 3, 0] rfl ?_
  exact F
theorem rX2_put_5 {Γ : GE} {l : Launch} {h MC MS : Nat} {Q : Option Value → GH → Prop} {bc bs : Nat} {G : GH} (x : Nat) (p1 : Int32) (p2 : Int32) (p3 : Int32) (F : ((p3 ≤ 0 → (GW Γ l mX2_put h MC MS Q 82 [(0, va_rf (some x)), (1, .int p1), (2, .int p2), (3, .int p3)] [] G bc bs)) ∧ (¬ p3 ≤ 0 → (gC G x = kO 1 ∧ cI Γ l h mX2_legAt [.ref x, .int (p3 - 1)] G bc bs fun r1 Gr1 br1 sr1 => gC Gr1 x = kO 1 ∧ cI Γ l h mX2_of [.ref x, .int r1, .int 2] Gr1 br1 sr1 fun r4 Gr4 br4 sr4 => gC Gr4 x = kO 1 ∧ cI Γ l h mX2_of [.ref x, .int p1, .int 2] Gr4 br4 sr4 fun r7 Gr7 br7 sr7 => ((r7 < r4 → (gC Gr7 x = kO 1 ∧ ∃ a11, (gR Gr7 x 7) = some a11 ∧ gC Gr7 a11 = kA 0 ∧ vp_in (p3 - 1) (gL Gr7 a11) ∧ gM Gr7 a11 = true ∧ vp_in p3 (gL Gr7 a11) ∧ GW Γ l mX2_put h MC MS Q 5 [(0, va_rf (some x)), (1, .int p1), (2, .int p2), (3, .int (p3 + (-1)))] [] (sI Gr7 a11 p3.toNatClampNeg (gI Gr7 a11 (p3 - 1).toNatClampNeg)) br7 sr7)) ∧ (¬ r7 < r4 → (gC Gr7 x = kO 1 ∧ cI Γ l h mX2_legAt [.ref x, .int (p3 - 1)] Gr7 br7 sr7 fun r17 Gr17 br17 sr17 => gC Gr17 x = kO 1 ∧ cI Γ l h mX2_of [.ref x, .int r17, .int 2] Gr17 br17 sr17 fun r20 Gr20 br20 sr20 => gC Gr20 x = kO 1 ∧ cI Γ l h mX2_of [.ref x, .int p1, .int 2] Gr20 br20 sr20 fun r23 Gr23 br23 sr23 => ((¬ r20 = r23 → (GW Γ l mX2_put h MC MS Q 82 [(0, va_rf (some x)), (1, .int p1), (2, .int p2), (3, .int p3)] [] Gr23 br23 sr23)) ∧ (r20 = r23 → (gC Gr23 x = kO 1 ∧ cI Γ l h mX2_legAt [.ref x, .int (p3 - 1)] Gr23 br23 sr23 fun r26 Gr26 br26 sr26 => ((r26 ≤ p1 → (GW Γ l mX2_put h MC MS Q 82 [(0, va_rf (some x)), (1, .int p1), (2, .int p2), (3, .int p3)] [] Gr26 br26 sr26)) ∧ (¬ r26 ≤ p1 → (gC Gr26 x = kO 1 ∧ ∃ a30, (gR Gr26 x 7) = some a30 ∧ gC Gr26 a30 = kA 0 ∧ vp_in (p3 - 1) (gL Gr26 a30) ∧ gM Gr26 a30 = true ∧ vp_in p3 (gL Gr26 a30) ∧ GW Γ l mX2_put h MC MS Q 5 [(0, va_rf (some x)), (1, .int p1), (2, .int p2), (3, .int (p3 + (-1)))] [] (sI Gr26 a30 p3.toNatClampNeg (gI Gr26 a30 (p3 - 1).toNatClampNeg)) br26 sr26))))))))))))) : GW Γ l mX2_put h MC MS Q 5 [(0, va_rf (some x)), (1, .int p1), (2, .int p2), (3, .int p3)] [] G bc bs := by
  refine g_iload_n dX2_put_5 rfl 3 rfl ?_
  refine g_if_le 82 dX2_put_6 (by decide) (fun h39 => ?_) (fun h39 => ?_)
  · have F := F.1 h39
    exact F
  · have F := F.2 h39
    refine g_aload_n dX2_put_9 rfl 0 rfl ?_
    refine g_aload_n dX2_put_10 rfl 0 rfl ?_
    refine g_iload_n dX2_put_11 rfl 3 rfl ?_
    refine g_iconst (v := 1) dX2_put_12 (by decide) ?_
    refine g_isub dX2_put_13 ?_
    obtain ⟨c2, F⟩ := F
    refine h_callVI (ci := 1) (C := RX2) (T := TX2) (N := 30) (As := [.int (p3 - 1)]) (rest := [va_rf (some x)]) F 1 rfl rfl (lw_V q2176 q2178 qs66 q117 q2179) vm_X2_legAt (by decide) rfl c2 rfl (room_of (sc_R sc_nil) (Nat.le_of_ble_eq_true rfl)) dX2_put_14 (fun r1 Gr1 br1 sr1 F => ?_)
    refine g_iconst (v := 2) dX2_put_17 (by decide) ?_
    obtain ⟨c5, F⟩ := F
    refine h_callVI (ci := 1) (C := RX2) (T := TX2) (N := 30) (As := [.int r1, .int 2]) (rest := []) F 2 rfl rfl (lw_V q2093 q2095 qs54 q117 q2096) vm_X2_of (by decide) rfl c5 rfl (room_of sc_nil (Nat.le_of_ble_eq_true rfl)) dX2_put_18 (fun r4 Gr4 br4 sr4 F => ?_)
    refine g_aload_n dX2_put_21 rfl 0 rfl ?_
    refine g_iload_n dX2_put_22 rfl 1 rfl ?_
    refine g_iconst (v := 2) dX2_put_23 (by decide) ?_
    obtain ⟨c8, F⟩ := F
    refine h_callVI (ci := 1) (C := RX2) (T := TX2) (N := 30) (As := [.int p1, .int 2]) (rest := [.int r4]) F 2 rfl rfl (lw_V q2093 q2095 qs54 q117 q2096) vm_X2_of (by decide) rfl c8 rfl (room_of (sc_I sc_nil) (Nat.le_of_ble_eq_true rfl)) dX2_put_24 (fun r7 Gr7 br7 sr7 F => ?_)
    refine g_icmp_gt 62 dX2_put_27 (by decide) (fun h38 => ?_) (fun h38 => ?_)
    · have F := F.1 h38
      refine g_aload_n dX2_put_62 rfl 0 rfl ?_
      obtain ⟨c10, F⟩ := F
      refine h_get (v := va_rf (gR Gr7 x 7)) 1 7 (C := RX2) (T := TX2) (N := 30) rfl in_X2 (by decide) q1996 (Or.inl rfl) rfl c10 rfl dX2_put_63 ?_
      refine g_iload_n dX2_put_66 rfl 3 rfl ?_
      refine g_aload_n dX2_put_67 rfl 0 rfl ?_
      refine h_get (v := va_rf (gR Gr7 x 7)) 1 7 (C := RX2) (T := TX2) (N := 30) rfl in_X2 (by decide) q1996 (Or.inl rfl) rfl c10 rfl dX2_put_68 ?_
      refine g_iload_n dX2_put_71 rfl 3 rfl ?_
      refine g_iconst (v := 1) dX2_put_72 (by decide) ?_
      refine g_isub dX2_put_73 ?_
      obtain ⟨a11, e12, F⟩ := F
      obtain ⟨c13, F⟩ := F
      obtain ⟨k14, F⟩ := F
      refine h_iald e12 c13 k14 dX2_put_74 ?_
      obtain ⟨m15, F⟩ := F
      obtain ⟨k16, F⟩ := F
      refine h_iast e12 c13 m15 k16 dX2_put_75 ?_
      refine s_iinc (v := (p3 + (-1))) (lv' := [(0, va_rf (some x)), (1, .int p1), (2, .int p2), (3, .int (p3 + (-1)))]) (cat_R (cat_I (cat_I (cat_I cat_nil)))) dX2_put_76 (k0 := 3) rfl rfl (by decide) rfl [1, 2, 3, 0] rfl ?_
      refine g_goto 5 dX2_put_79 (by decide) ?_
      exact F
    · have F := F.2 h38
      refine g_aload_n dX2_put_30 rfl 0 rfl ?_
      refine g_aload_n dX2_put_31 rfl 0 rfl ?_
      refine g_iload_n dX2_put_32 rfl 3 rfl ?_
      refine g_iconst (v := 1) dX2_put_33 (by decide) ?_
      refine g_isub dX2_put_34 ?_
      obtain ⟨c18, F⟩ := F
      refine h_callVI (ci := 1) (C := RX2) (T := TX2) (N := 30) (As := [.int (p3 - 1)]) (rest := [va_rf (some x)]) F 1 rfl rfl (lw_V q2176 q2178 qs66 q117 q2179) vm_X2_legAt (by decide) rfl c18 rfl (room_of (sc_R sc_nil) (Nat.le_of_ble_eq_true rfl)) dX2_put_35 (fun r17 Gr17 br17 sr17 F => ?_)
      refine g_iconst (v := 2) dX2_put_38 (by decide) ?_
      obtain ⟨c21, F⟩ := F
      refine h_callVI (ci := 1) (C := RX2) (T := TX2) (N := 30) (As := [.int r17, .int 2]) (rest := []) F 2 rfl rfl (lw_V q2093 q2095 qs54 q117 q2096) vm_X2_of (by decide) rfl c21 rfl (room_of sc_nil (Nat.le_of_ble_eq_true rfl)) dX2_put_39 (fun r20 Gr20 br20 sr20 F => ?_)
      refine g_aload_n dX2_put_42 rfl 0 rfl ?_
      refine g_iload_n dX2_put_43 rfl 1 rfl ?_
      refine g_iconst (v := 2) dX2_put_44 (by decide) ?_
      obtain ⟨c24, F⟩ := F
      refine h_callVI (ci := 1) (C := RX2) (T := TX2) (N := 30) (As := [.int p1, .int 2]) (rest := [.int r20]) F 2 rfl rfl (lw_V q2093 q2095 qs54 q117 q2096) vm_X2_of (by decide) rfl c24 rfl (room_of (sc_I sc_nil) (Nat.le_of_ble_eq_true rfl)) dX2_put_45 (fun r23 Gr23 br23 sr23 F => ?_)
      refine g_icmp_ne 82 dX2_put_48 (by decide) (fun h37 => ?_) (fun h37 => ?_)
      · have F := F.1 h37
        exact F
      · have F := F.2 h37
        refine g_aload_n dX2_put_51 rfl 0 rfl ?_
        refine g_iload_n dX2_put_52 rfl 3 rfl ?_
        refine g_iconst (v := 1) dX2_put_53 (by decide) ?_
        refine g_isub dX2_put_54 ?_
        obtain ⟨c27, F⟩ := F
        refine h_callVI (ci := 1) (C := RX2) (T := TX2) (N := 30) (As := [.int (p3 - 1)]) (rest := []) F 1 rfl rfl (lw_V q2176 q2178 qs66 q117 q2179) vm_X2_legAt (by decide) rfl c27 rfl (room_of sc_nil (Nat.le_of_ble_eq_true rfl)) dX2_put_55 (fun r26 Gr26 br26 sr26 F => ?_)
        refine g_iload_n dX2_put_58 rfl 1 rfl ?_
        refine g_icmp_le 82 dX2_put_59 (by decide) (fun h36 => ?_) (fun h36 => ?_)
        · have F := F.1 h36
          exact F
        · have F := F.2 h36
          refine g_aload_n dX2_put_62 rfl 0 rfl ?_
          obtain ⟨c29, F⟩ := F
          refine h_get (v := va_rf (gR Gr26 x 7)) 1 7 (C := RX2) (T := TX2) (N := 30) rfl in_X2 (by decide) q1996 (Or.inl rfl) rfl c29 rfl dX2_put_63 ?_
          refine g_iload_n dX2_put_66 rfl 3 rfl ?_
          refine g_aload_n dX2_put_67 rfl 0 rfl ?_
          refine h_get (v := va_rf (gR Gr26 x 7)) 1 7 (C := RX2) (T := TX2) (N := 30) rfl in_X2 (by decide) q1996 (Or.inl rfl) rfl c29 rfl dX2_put_68 ?_
          refine g_iload_n dX2_put_71 rfl 3 rfl ?_
          refine g_iconst (v := 1) dX2_put_72 (by decide) ?_
          refine g_isub dX2_put_73 ?_
          obtain ⟨a30, e31, F⟩ := F
          obtain ⟨c32, F⟩ := F
          obtain ⟨k33, F⟩ := F
          refine h_iald e31 c32 k33 dX2_put_74 ?_
          obtain ⟨m34, F⟩ := F
          obtain ⟨k35, F⟩ := F
          refine h_iast e31 c32 m34 k35 dX2_put_75 ?_
          refine s_iinc (v := (p3 + (-1))) (lv' := [(0, va_rf (some x)), (1, .int p1), (2, .int p2), (3, .int (p3 + (-1)))]) (cat_R (cat_I (cat_I (cat_I cat_nil)))) dX2_put_76 (k0 := 3) rfl rfl (by decide) rfl [1, 2, 3, 0] rfl ?_
          refine g_goto 5 dX2_put_79 (by decide) ?_
          exact F
theorem rX2_put_82 {Γ : GE} {l : Launch} {h MC MS : Nat} {Q : Option Value → GH → Prop} {bc bs : Nat} {G : GH} (x : Nat) (p1 : Int32) (p2 : Int32) (p3 : Int32) (F : (gC G x = kO 1 ∧ ((p2 = 0 → (∃ a2, (gR G x 7) = some a2 ∧ gC G a2 = kA 0 ∧ gM G a2 = true ∧ vp_in p3 (gL G a2) ∧ gM (sI G a2 p3.toNatClampNeg ((2 * p1) + 0)) x = true ∧ Q (some (.int p3)) (sI (sI G a2 p3.toNatClampNeg ((2 * p1) + 0)) x 8 ((gI (sI G a2 p3.toNatClampNeg ((2 * p1) + 0)) x 8) + 1)))) ∧ (¬ p2 = 0 → (∃ a8, (gR G x 7) = some a8 ∧ gC G a8 = kA 0 ∧ gM G a8 = true ∧ vp_in p3 (gL G a8) ∧ gM (sI G a8 p3.toNatClampNeg ((2 * p1) + 1)) x = true ∧ Q (some (.int p3)) (sI (sI G a8 p3.toNatClampNeg ((2 * p1) + 1)) x 8 ((gI (sI G a8 p3.toNatClampNeg ((2 * p1) + 1)) x 8) + 1))))))) : GW Γ l mX2_put h MC MS Q 82 [(0, va_rf (some x)), (1, .int p1), (2, .int p2), (3, .int p3)] [] G bc bs := by
  refine g_aload_n dX2_put_82 rfl 0 rfl ?_
  obtain ⟨c1, F⟩ := F
  refine h_get (v := va_rf (gR G x 7)) 1 7 (C := RX2) (T := TX2) (N := 30) rfl in_X2 (by decide) q1996 (Or.inl rfl) rfl c1 rfl dX2_put_83 ?_
  refine g_iload_n dX2_put_86 rfl 3 rfl ?_
  refine g_iconst (v := 2) dX2_put_87 (by decide) ?_
  refine g_iload_n dX2_put_88 rfl 1 rfl ?_
  refine g_imul dX2_put_89 ?_
  refine g_iload_n dX2_put_90 rfl 2 rfl ?_
  refine g_if_eq 98 dX2_put_91 (by decide) (fun h14 => ?_) (fun h14 => ?_)
  · have F := F.1 h14
    refine g_iconst (v := 0) dX2_put_98 (by decide) ?_
    refine g_iadd dX2_put_99 ?_
    obtain ⟨a2, e3, F⟩ := F
    obtain ⟨c4, F⟩ := F
    obtain ⟨m5, F⟩ := F
    obtain ⟨k6, F⟩ := F
    refine h_iast e3 c4 m5 k6 dX2_put_100 ?_
    refine g_aload_n dX2_put_101 rfl 0 rfl ?_
    refine g_dup dX2_put_102 (va_rf_cat _) ?_
    refine h_get (v := .int (gI (sI G a2 p3.toNatClampNeg ((2 * p1) + 0)) x 8)) 1 8 (C := RX2) (T := TX2) (N := 30) rfl in_X2 (by decide) q1997 (Or.inl rfl) rfl c1 rfl dX2_put_103 ?_
    refine g_iconst (v := 1) dX2_put_106 (by decide) ?_
    refine g_iadd dX2_put_107 ?_
    obtain ⟨m7, F⟩ := F
    refine h_putI (mi := mX2_put) 1 8 (C := RX2) (T := TX2) (N := 30) rfl in_X2 tyX2_ok nmX2 (by decide) q1997 (Or.inl rfl) (Or.inl rfl) rfl rfl c1 m7 rfl rfl dX2_put_108 ?_
    refine g_iload_n dX2_put_111 rfl 3 rfl ?_
    exact g_iret rfl dX2_put_112 F
  · have F := F.2 h14
    refine g_iconst (v := 1) dX2_put_94 (by decide) ?_
    refine g_goto 99 dX2_put_95 (by decide) ?_
    refine g_iadd dX2_put_99 ?_
    obtain ⟨a8, e9, F⟩ := F
    obtain ⟨c10, F⟩ := F
    obtain ⟨m11, F⟩ := F
    obtain ⟨k12, F⟩ := F
    refine h_iast e9 c10 m11 k12 dX2_put_100 ?_
    refine g_aload_n dX2_put_101 rfl 0 rfl ?_
    refine g_dup dX2_put_102 (va_rf_cat _) ?_
    refine h_get (v := .int (gI (sI G a8 p3.toNatClampNeg ((2 * p1) + 1)) x 8)) 1 8 (C := RX2) (T := TX2) (N := 30) rfl in_X2 (by decide) q1997 (Or.inl rfl) rfl c1 rfl dX2_put_103 ?_
    refine g_iconst (v := 1) dX2_put_106 (by decide) ?_
    refine g_iadd dX2_put_107 ?_
    obtain ⟨m13, F⟩ := F
    refine h_putI (mi := mX2_put) 1 8 (C := RX2) (T := TX2) (N := 30) rfl in_X2 tyX2_ok nmX2 (by decide) q1997 (Or.inl rfl) (Or.inl rfl) rfl rfl c1 m13 rfl rfl dX2_put_108 ?_
    refine g_iload_n dX2_put_111 rfl 3 rfl ?_
    exact g_iret rfl dX2_put_112 F
theorem rX2_violationAt_0 {Γ : GE} {l : Launch} {h MC MS : Nat} {Q : Option Value → GH → Prop} {bc bs : Nat} {G : GH} (x : Nat) (p1 : Int32) (F : (GW Γ l mX2_violationAt h MC MS Q 4 [(0, va_rf (some x)), (1, .int p1), (2, .int p1), (3, .int 1)] [] G bc bs)) : GW Γ l mX2_violationAt h MC MS Q 0 [(0, va_rf (some x)), (1, .int p1)] [] G bc bs := by
  refine g_iload_n dX2_violationAt_0 rfl 1 rfl ?_
  refine s_istore_n (lv' := [(0, va_rf (some x)), (1, .int p1), (2, .int p1)]) (cat_R (cat_I cat_nil)) dX2_violationAt_1 rfl (by decide) rfl [1, 2, 0] rfl ?_
  refine g_iconst (v := 1) dX2_violationAt_2 (by decide) ?_
  refine s_istore_n (lv' := [(0, va_rf (some x)), (1, .int p1), (2, .int p1), (3, .int 1)]) (cat_R (cat_I (cat_I cat_nil))) dX2_violationAt_3 rfl (by decide) rfl [1, 2, 3, 0] rfl ?_
  exact F
theorem rX2_violationAt_4 {Γ : GE} {l : Launch} {h MC MS : Nat} {Q : Option Value → GH → Prop} {bc bs : Nat} {G : GH} (x : Nat) (p1 : Int32) (p2 : Int32) (p3 : Int32) (F : (((7 : Int32) < p3 → (Q (some (.int 0)) G)) ∧ (¬ (7 : Int32) < p3 → (GW Γ l mX2_violationAt h MC MS Q 13 [(0, va_rf (some x)), (1, .int p1), (2, .int p2), (3, .int p3), (4, .int 0)] [] G bc bs)))) : GW Γ l mX2_violationAt h MC MS Q 4 [(0, va_rf (some x)), (1, .int p1), (2, .int p2), (3, .int p3)] [] G bc bs := by
  refine g_iload_n dX2_violationAt_4 rfl 3 rfl ?_
  refine g_bipush (v := 7) dX2_violationAt_5 (by decide) ?_
  refine g_icmp_gt 59 dX2_violationAt_7 (by decide) (fun h1 => ?_) (fun h1 => ?_)
  · have F := F.1 h1
    refine g_iconst (v := 0) dX2_violationAt_59 (by decide) ?_
    exact g_iret rfl dX2_violationAt_60 F
  · have F := F.2 h1
    refine g_iconst (v := 0) dX2_violationAt_10 (by decide) ?_
    refine s_istore (lv' := [(0, va_rf (some x)), (1, .int p1), (2, .int p2), (3, .int p3), (4, .int 0)]) (cat_R (cat_I (cat_I (cat_I cat_nil)))) dX2_violationAt_11 (by decide) rfl [1, 2, 3, 4, 0] rfl ?_
    exact F
theorem rX2_violationAt_13 {Γ : GE} {l : Launch} {h MC MS : Nat} {Q : Option Value → GH → Prop} {bc bs : Nat} {G : GH} (x : Nat) (p1 : Int32) (p2 : Int32) (p3 : Int32) (p4 : Int32) (F : (gC G x = kO 1 ∧ (((gI G x 8) ≤ p4 → (GW Γ l mX2_violationAt h MC MS Q 4 [(0, va_rf (some x)), (1, .int p1), (2, .int p2), (3, .int (p3 + 1))] [] G bc bs)) ∧ (¬ (gI G x 8) ≤ p4 → (cI Γ l h mX2_violates [.ref x, .int p3, .int p4] G bc bs fun r2 Gr2 br2 sr2 => ((r2 = 0 → (GW Γ l mX2_violationAt h MC MS Q 13 [(0, va_rf (some x)), (1, .int p1), (2, .int p2), (3, .int p3), (4, .int (p4 + 1))] [] Gr2 br2 sr2)) ∧ (¬ r2 = 0 → ((¬ p2 = 0 → (GW Γ l mX2_violationAt h MC MS Q 13 [(0, va_rf (some x)), (1, .int p1), (2, .int (p2 + (-1))), (3, .int p3), (4, .int (p4 + 1))] [] Gr2 br2 sr2)) ∧ (p2 = 0 → (Q (some (.int ((100 * p3) + p4))) Gr2)))))))))) : GW Γ l mX2_violationAt h MC MS Q 13 [(0, va_rf (some x)), (1, .int p1), (2, .int p2), (3, .int p3), (4, .int p4)] [] G bc bs := by
  refine g_iload dX2_violationAt_13 4 rfl ?_
  refine g_aload_n dX2_violationAt_15 rfl 0 rfl ?_
  obtain ⟨c1, F⟩ := F
  refine h_get (v := .int (gI G x 8)) 1 8 (C := RX2) (T := TX2) (N := 30) rfl in_X2 (by decide) q1997 (Or.inl rfl) rfl c1 rfl dX2_violationAt_16 ?_
  refine g_icmp_ge 53 dX2_violationAt_19 (by decide) (fun h6 => ?_) (fun h6 => ?_)
  · have F := F.1 h6
    refine s_iinc (v := (p3 + 1)) (lv' := [(0, va_rf (some x)), (1, .int p1), (2, .int p2), (3, .int (p3 + 1)), (4, .int p4)]) (cat_R (cat_I (cat_I (cat_I (cat_I cat_nil))))) dX2_violationAt_53 (k0 := 3) rfl rfl (by decide) rfl [1, 2, 3, 0, 4] rfl ?_
    refine g_goto 4 dX2_violationAt_56 (by decide) ?_
    refine GW.lsub (lv' := [(0, va_rf (some x)), (1, .int p1), (2, .int p2), (3, .int (p3 + 1))]) [0, 1, 2, 3] rfl ?_
    exact F
  · have F := F.2 h6
    refine g_aload_n dX2_violationAt_22 rfl 0 rfl ?_
    refine g_iload_n dX2_violationAt_23 rfl 3 rfl ?_
    refine g_iload dX2_violationAt_24 4 rfl ?_
    refine h_callVI (ci := 1) (C := RX2) (T := TX2) (N := 30) (As := [.int p3, .int p4]) (rest := []) F 2 rfl rfl (lw_V q2188 q2190 qs69 q117 q2191) vm_X2_violates (by decide) rfl c1 rfl (room_of sc_nil (Nat.le_of_ble_eq_true rfl)) dX2_violationAt_26 (fun r2 Gr2 br2 sr2 F => ?_)
    refine g_if_eq 47 dX2_violationAt_29 (by decide) (fun h5 => ?_) (fun h5 => ?_)
    · have F := F.1 h5
      refine s_iinc (v := (p4 + 1)) (lv' := [(0, va_rf (some x)), (1, .int p1), (2, .int p2), (3, .int p3), (4, .int (p4 + 1))]) (cat_R (cat_I (cat_I (cat_I (cat_I cat_nil))))) dX2_violationAt_47 (k0 := 4) rfl rfl (by decide) rfl [1, 2, 3, 4, 0] rfl ?_
      refine g_goto 13 dX2_violationAt_50 (by decide) ?_
      exact F
    · have F := F.2 h5
      refine g_iload_n dX2_violationAt_32 rfl 2 rfl ?_
      refine g_if_ne 44 dX2_violationAt_33 (by decide) (fun h4 => ?_) (fun h4 => ?_)
      · have F := F.1 h4
        refine s_iinc (v := (p2 + (-1))) (lv' := [(0, va_rf (some x)), (1, .int p1), (2, .int (p2 + (-1))), (3, .int p3), (4, .int p4)]) (cat_R (cat_I (cat_I (cat_I (cat_I cat_nil))))) dX2_violationAt_44 (k0 := 2) rfl rfl (by decide) rfl [1, 2, 0, 3, 4] rfl ?_
        refine s_iinc (v := (p4 + 1)) (lv' := [(0, va_rf (some x)), (1, .int p1), (2, .int (p2 + (-1))), (3, .int p3), (4, .int (p4 + 1))]) (cat_R (cat_I (cat_I (cat_I (cat_I cat_nil))))) dX2_violationAt_47 (k0 := 4) rfl rfl (by decide) rfl [1, 2, 3, 4, 0] rfl ?_
        refine g_goto 13 dX2_violationAt_50 (by decide) ?_
        exact F
      · have F := F.2 h4
        refine g_bipush (v := 100) dX2_violationAt_36 (by decide) ?_
        refine g_iload_n dX2_violationAt_38 rfl 3 rfl ?_
        refine g_imul dX2_violationAt_39 ?_
        refine g_iload dX2_violationAt_40 4 rfl ?_
        refine g_iadd dX2_violationAt_42 ?_
        exact g_iret rfl dX2_violationAt_43 F
theorem rX2_violates_0 {Γ : GE} {l : Launch} {h MC MS : Nat} {Q : Option Value → GH → Prop} {bc bs : Nat} {G : GH} (x : Nat) (p1 : Int32) (p2 : Int32) (F : ((p1 = 1 → ((p2 ≤ 0 → (Q (some (.int 0)) G)) ∧ (¬ p2 ≤ 0 → (gC G x = kO 1 ∧ cI Γ l h mX2_gapBefore [.ref x, .int p2] G bc bs fun r2 Gr2 br2 sr2 => (((0 : Int32) ≤ r2 → (Q (some (.int 0)) Gr2)) ∧ (¬ (0 : Int32) ≤ r2 → (Q (some (.int 1)) Gr2))))))) ∧ (p1 = 2 → (gC G x = kO 1 ∧ cI Γ l h mX2_legAt [.ref x, .int p2] G bc bs fun r7 Gr7 br7 sr7 => gC Gr7 x = kO 1 ∧ cI Γ l h mX2_of [.ref x, .int r7, .int 0] Gr7 br7 sr7 fun r10 Gr10 br10 sr10 => ((¬ p2 = 0 → (gC Gr10 x = kO 1 ∧ cI Γ l h mX2_legAt [.ref x, .int (p2 - 1)] Gr10 br10 sr10 fun r13 Gr13 br13 sr13 => gC Gr13 x = kO 1 ∧ cI Γ l h mX2_of [.ref x, .int r13, .int 1] Gr13 br13 sr13 fun r16 Gr16 br16 sr16 => ((r10 = r16 → (Q (some (.int 0)) Gr16)) ∧ (¬ r10 = r16 → (Q (some (.int 1)) Gr16))))) ∧ (p2 = 0 → (gC Gr10 x = kO 1 ∧ ((r10 = (gI Gr10 x 9) → (Q (some (.int 0)) Gr10)) ∧ (¬ r10 = (gI Gr10 x 9) → (Q (some (.int 1)) Gr10)))))))) ∧ (p1 = 3 → ((p2 ≤ 0 → (Q (some (.int 0)) G)) ∧ (¬ p2 ≤ 0 → (gC G x = kO 1 ∧ cI Γ l h mX2_gapBefore [.ref x, .int p2] G bc bs fun r23 Gr23 br23 sr23 => gC Gr23 x = kO 1 ∧ ∃ a27, (gR Gr23 x 0) = some a27 ∧ gC Gr23 a27 = kA 0 ∧ vp_in 2 (gL Gr23 a27) ∧ cI Γ l h mX2_in [.int r23, .int 0, .int ((gI Gr23 a27 (2 : Int32).toNatClampNeg) - 1)] Gr23 br23 sr23 fun r31 Gr31 br31 sr31 => ((r31 = 0 → (Q (some (.int 0)) Gr31)) ∧ (¬ r31 = 0 → (Q (some (.int 1)) Gr31))))))) ∧ (p1 = 4 → (gC G x = kO 1 ∧ cI Γ l h mX2_beginsDuty [.ref x, .int p2] G bc bs fun r35 Gr35 br35 sr35 => ((r35 = 0 → (Q (some (.int 0)) Gr35)) ∧ (¬ r35 = 0 → (gC Gr35 x = kO 1 ∧ cI Γ l h mX2_dutyMinutes [.ref x, .int p2] Gr35 br35 sr35 fun r38 Gr38 br38 sr38 => gC Gr38 x = kO 1 ∧ ∃ a42, (gR Gr38 x 0) = some a42 ∧ gC Gr38 a42 = kA 0 ∧ vp_in 4 (gL Gr38 a42) ∧ ((r38 ≤ (gI Gr38 a42 (4 : Int32).toNatClampNeg) → (Q (some (.int 0)) Gr38)) ∧ (¬ r38 ≤ (gI Gr38 a42 (4 : Int32).toNatClampNeg) → (Q (some (.int 1)) Gr38)))))))) ∧ (p1 = 5 → (gC G x = kO 1 ∧ cI Γ l h mX2_beginsDuty [.ref x, .int p2] G bc bs fun r48 Gr48 br48 sr48 => ((r48 = 0 → (Q (some (.int 0)) Gr48)) ∧ (¬ r48 = 0 → (gC Gr48 x = kO 1 ∧ cI Γ l h mX2_dutyEnd [.ref x, .int p2] Gr48 br48 sr48 fun r51 Gr51 br51 sr51 => gC Gr51 x = kO 1 ∧ cI Γ l h mX2_flownFrom [.ref x, .int p2, .int r51] Gr51 br51 sr51 fun r54 Gr54 br54 sr54 => gC Gr54 x = kO 1 ∧ ∃ a58, (gR Gr54 x 0) = some a58 ∧ gC Gr54 a58 = kA 0 ∧ vp_in 5 (gL Gr54 a58) ∧ ((r54 ≤ (gI Gr54 a58 (5 : Int32).toNatClampNeg) → (Q (some (.int 0)) Gr54)) ∧ (¬ r54 ≤ (gI Gr54 a58 (5 : Int32).toNatClampNeg) → (Q (some (.int 1)) Gr54)))))))) ∧ (p1 = 6 → (gC G x = kO 1 ∧ cI Γ l h mX2_beginsDuty [.ref x, .int p2] G bc bs fun r64 Gr64 br64 sr64 => ((r64 = 0 → (Q (some (.int 0)) Gr64)) ∧ (¬ r64 = 0 → (gC Gr64 x = kO 1 ∧ cI Γ l h mX2_dutyEnd [.ref x, .int p2] Gr64 br64 sr64 fun r67 Gr67 br67 sr67 => gC Gr67 x = kO 1 ∧ ∃ a71, (gR Gr67 x 0) = some a71 ∧ gC Gr67 a71 = kA 0 ∧ vp_in 6 (gL Gr67 a71) ∧ (((r67 - p2) ≤ (gI Gr67 a71 (6 : Int32).toNatClampNeg) → (Q (some (.int 0)) Gr67)) ∧ (¬ (r67 - p2) ≤ (gI Gr67 a71 (6 : Int32).toNatClampNeg) → (Q (some (.int 1)) Gr67)))))))) ∧ ((p1.toInt < 1 ∨ 6 < p1.toInt) → (gC G x = kO 1 ∧ cI Γ l h mX2_isFlown [.ref x, .int p2] G bc bs fun r77 Gr77 br77 sr77 => ((r77 = 0 → (Q (some (.int 0)) Gr77)) ∧ (¬ r77 = 0 → (gC Gr77 x = kO 1 ∧ cI Γ l h mX2_legAt [.ref x, .int p2] Gr77 br77 sr77 fun r80 Gr80 br80 sr80 => gC Gr80 x = kO 1 ∧ cI Γ l h mX2_of [.ref x, .int r80, .int 2] Gr80 br80 sr80 fun r83 Gr83 br83 sr83 => gC Gr83 x = kO 1 ∧ cI Γ l h mX2_flownWithin [.ref x, .int r83, .int 1440] Gr83 br83 sr83 fun r86 Gr86 br86 sr86 => gC Gr86 x = kO 1 ∧ ∃ a90, (gR Gr86 x 0) = some a90 ∧ gC Gr86 a90 = kA 0 ∧ vp_in 7 (gL Gr86 a90) ∧ ((r86 ≤ (gI Gr86 a90 (7 : Int32).toNatClampNeg) → (Q (some (.int 0)) Gr86)) ∧ (¬ r86 ≤ (gI Gr86 a90 (7 : Int32).toNatClampNeg) → (Q (some (.int 1)) Gr86)))))))))) : GW Γ l mX2_violates h MC MS Q 0 [(0, va_rf (some x)), (1, .int p1), (2, .int p2)] [] G bc bs := by
  refine g_iload_n dX2_violates_0 rfl 1 rfl ?_
  by_cases h1 : (p1.toInt < 1 ∨ 6 < p1.toInt)
  · have F := F.2.2.2.2.2.2 h1
    refine h_tout 222 dX2_violates_1 h1 (by decide) ?_
    refine g_aload_n dX2_violates_222 rfl 0 rfl ?_
    refine g_iload_n dX2_violates_223 rfl 2 rfl ?_
    obtain ⟨c78, F⟩ := F
    refine h_callVI (ci := 1) (C := RX2) (T := TX2) (N := 30) (As := [.int p2]) (rest := []) F 1 rfl rfl (lw_V q2212 q2214 qs75 q117 q2215) vm_X2_isFlown (by decide) rfl c78 rfl (room_of sc_nil (Nat.le_of_ble_eq_true rfl)) dX2_violates_224 (fun r77 Gr77 br77 sr77 F => ?_)
    refine g_if_eq 261 dX2_violates_227 (by decide) (fun h95 => ?_) (fun h95 => ?_)
    · have F := F.1 h95
      refine g_iconst (v := 0) dX2_violates_261 (by decide) ?_
      exact g_zret rfl rfl dX2_violates_262 F
    · have F := F.2 h95
      refine g_aload_n dX2_violates_230 rfl 0 rfl ?_
      refine g_aload_n dX2_violates_231 rfl 0 rfl ?_
      refine g_aload_n dX2_violates_232 rfl 0 rfl ?_
      refine g_iload_n dX2_violates_233 rfl 2 rfl ?_
      obtain ⟨c81, F⟩ := F
      refine h_callVI (ci := 1) (C := RX2) (T := TX2) (N := 30) (As := [.int p2]) (rest := [va_rf (some x), va_rf (some x)]) F 1 rfl rfl (lw_V q2176 q2178 qs66 q117 q2179) vm_X2_legAt (by decide) rfl c81 rfl (room_of (sc_R (sc_R sc_nil)) (Nat.le_of_ble_eq_true rfl)) dX2_violates_234 (fun r80 Gr80 br80 sr80 F => ?_)
      refine g_iconst (v := 2) dX2_violates_237 (by decide) ?_
      obtain ⟨c84, F⟩ := F
      refine h_callVI (ci := 1) (C := RX2) (T := TX2) (N := 30) (As := [.int r80, .int 2]) (rest := [va_rf (some x)]) F 2 rfl rfl (lw_V q2093 q2095 qs54 q117 q2096) vm_X2_of (by decide) rfl c84 rfl (room_of (sc_R sc_nil) (Nat.le_of_ble_eq_true rfl)) dX2_violates_238 (fun r83 Gr83 br83 sr83 F => ?_)
      refine g_sipush (v := 1440) dX2_violates_241 (by decide) ?_
      obtain ⟨c87, F⟩ := F
      refine h_callVI (ci := 1) (C := RX2) (T := TX2) (N := 30) (As := [.int r83, .int 1440]) (rest := []) F 2 rfl rfl (lw_V q2220 q2222 qs77 q117 q2223) vm_X2_flownWithin (by decide) rfl c87 rfl (room_of sc_nil (Nat.le_of_ble_eq_true rfl)) dX2_violates_244 (fun r86 Gr86 br86 sr86 F => ?_)
      refine g_aload_n dX2_violates_247 rfl 0 rfl ?_
      obtain ⟨c89, F⟩ := F
      refine h_get (v := va_rf (gR Gr86 x 0)) 1 0 (C := RX2) (T := TX2) (N := 30) rfl in_X2 (by decide) q1989 (Or.inl rfl) rfl c89 rfl dX2_violates_248 ?_
      refine g_bipush (v := 7) dX2_violates_251 (by decide) ?_
      obtain ⟨a90, e91, F⟩ := F
      obtain ⟨c92, F⟩ := F
      obtain ⟨k93, F⟩ := F
      refine h_iald e91 c92 k93 dX2_violates_253 ?_
      refine g_icmp_le 261 dX2_violates_254 (by decide) (fun h94 => ?_) (fun h94 => ?_)
      · have F := F.1 h94
        refine g_iconst (v := 0) dX2_violates_261 (by decide) ?_
        exact g_zret rfl rfl dX2_violates_262 F
      · have F := F.2 h94
        refine g_iconst (v := 1) dX2_violates_257 (by decide) ?_
        refine g_goto 262 dX2_violates_258 (by decide) ?_
        exact g_zret rfl rfl dX2_violates_262 F
  · have zh1 : p1.toInt = 1 ∨ p1.toInt = 2 ∨ p1.toInt = 3 ∨ p1.toInt = 4 ∨ p1.toInt = 5 ∨ p1.toInt = 6 := by omega
    rcases zh1 with zh1 | zh1 | zh1 | zh1 | zh1 | zh1
    · have F := F.1 (tsw_eq zh1 (by decide))
      refine h_tin 40 dX2_violates_1 zh1 (by decide) (by decide) rfl (by decide) ?_
      refine g_iload_n dX2_violates_40 rfl 2 rfl ?_
      refine g_if_le 56 dX2_violates_41 (by decide) (fun h6 => ?_) (fun h6 => ?_)
      · have F := F.1 h6
        refine g_iconst (v := 0) dX2_violates_56 (by decide) ?_
        exact g_zret rfl rfl dX2_violates_57 F
      · have F := F.2 h6
        refine g_aload_n dX2_violates_44 rfl 0 rfl ?_
        refine g_iload_n dX2_violates_45 rfl 2 rfl ?_
        obtain ⟨c3, F⟩ := F
        refine h_callVI (ci := 1) (C := RX2) (T := TX2) (N := 30) (As := [.int p2]) (rest := []) F 1 rfl rfl (lw_V q2192 q2194 qs70 q117 q2195) vm_X2_gapBefore (by decide) rfl c3 rfl (room_of sc_nil (Nat.le_of_ble_eq_true rfl)) dX2_violates_46 (fun r2 Gr2 br2 sr2 F => ?_)
        refine g_if_ge 56 dX2_violates_49 (by decide) (fun h5 => ?_) (fun h5 => ?_)
        · have F := F.1 h5
          refine g_iconst (v := 0) dX2_violates_56 (by decide) ?_
          exact g_zret rfl rfl dX2_violates_57 F
        · have F := F.2 h5
          refine g_iconst (v := 1) dX2_violates_52 (by decide) ?_
          refine g_goto 57 dX2_violates_53 (by decide) ?_
          exact g_zret rfl rfl dX2_violates_57 F
    · have F := F.2.1 (tsw_eq zh1 (by decide))
      refine h_tin 58 dX2_violates_1 zh1 (by decide) (by decide) rfl (by decide) ?_
      refine g_aload_n dX2_violates_58 rfl 0 rfl ?_
      refine g_aload_n dX2_violates_59 rfl 0 rfl ?_
      refine g_iload_n dX2_violates_60 rfl 2 rfl ?_
      obtain ⟨c8, F⟩ := F
      refine h_callVI (ci := 1) (C := RX2) (T := TX2) (N := 30) (As := [.int p2]) (rest := [va_rf (some x)]) F 1 rfl rfl (lw_V q2176 q2178 qs66 q117 q2179) vm_X2_legAt (by decide) rfl c8 rfl (room_of (sc_R sc_nil) (Nat.le_of_ble_eq_true rfl)) dX2_violates_61 (fun r7 Gr7 br7 sr7 F => ?_)
      refine g_iconst (v := 0) dX2_violates_64 (by decide) ?_
      obtain ⟨c11, F⟩ := F
      refine h_callVI (ci := 1) (C := RX2) (T := TX2) (N := 30) (As := [.int r7, .int 0]) (rest := []) F 2 rfl rfl (lw_V q2093 q2095 qs54 q117 q2096) vm_X2_of (by decide) rfl c11 rfl (room_of sc_nil (Nat.le_of_ble_eq_true rfl)) dX2_violates_65 (fun r10 Gr10 br10 sr10 F => ?_)
      refine g_iload_n dX2_violates_68 rfl 2 rfl ?_
      refine g_if_ne 79 dX2_violates_69 (by decide) (fun h22 => ?_) (fun h22 => ?_)
      · have F := F.1 h22
        refine g_aload_n dX2_violates_79 rfl 0 rfl ?_
        refine g_aload_n dX2_violates_80 rfl 0 rfl ?_
        refine g_iload_n dX2_violates_81 rfl 2 rfl ?_
        refine g_iconst (v := 1) dX2_violates_82 (by decide) ?_
        refine g_isub dX2_violates_83 ?_
        obtain ⟨c14, F⟩ := F
        refine h_callVI (ci := 1) (C := RX2) (T := TX2) (N := 30) (As := [.int (p2 - 1)]) (rest := [va_rf (some x), .int r10]) F 1 rfl rfl (lw_V q2176 q2178 qs66 q117 q2179) vm_X2_legAt (by decide) rfl c14 rfl (room_of (sc_R (sc_I sc_nil)) (Nat.le_of_ble_eq_true rfl)) dX2_violates_84 (fun r13 Gr13 br13 sr13 F => ?_)
        refine g_iconst (v := 1) dX2_violates_87 (by decide) ?_
        obtain ⟨c17, F⟩ := F
        refine h_callVI (ci := 1) (C := RX2) (T := TX2) (N := 30) (As := [.int r13, .int 1]) (rest := [.int r10]) F 2 rfl rfl (lw_V q2093 q2095 qs54 q117 q2096) vm_X2_of (by decide) rfl c17 rfl (room_of (sc_I sc_nil) (Nat.le_of_ble_eq_true rfl)) dX2_violates_88 (fun r16 Gr16 br16 sr16 F => ?_)
        refine g_icmp_eq 98 dX2_violates_91 (by decide) (fun h19 => ?_) (fun h19 => ?_)
        · have F := F.1 h19
          refine g_iconst (v := 0) dX2_violates_98 (by decide) ?_
          exact g_zret rfl rfl dX2_violates_99 F
        · have F := F.2 h19
          refine g_iconst (v := 1) dX2_violates_94 (by decide) ?_
          refine g_goto 99 dX2_violates_95 (by decide) ?_
          exact g_zret rfl rfl dX2_violates_99 F
      · have F := F.2 h22
        refine g_aload_n dX2_violates_72 rfl 0 rfl ?_
        obtain ⟨c20, F⟩ := F
        refine h_get (v := .int (gI Gr10 x 9)) 1 9 (C := RX2) (T := TX2) (N := 30) rfl in_X2 (by decide) q1998 (Or.inl rfl) rfl c20 rfl dX2_violates_73 ?_
        refine g_goto 91 dX2_violates_76 (by decide) ?_
        refine g_icmp_eq 98 dX2_violates_91 (by decide) (fun h21 => ?_) (fun h21 => ?_)
        · have F := F.1 h21
          refine g_iconst (v := 0) dX2_violates_98 (by decide) ?_
          exact g_zret rfl rfl dX2_violates_99 F
        · have F := F.2 h21
          refine g_iconst (v := 1) dX2_violates_94 (by decide) ?_
          refine g_goto 99 dX2_violates_95 (by decide) ?_
          exact g_zret rfl rfl dX2_violates_99 F
    · have F := F.2.2.1 (tsw_eq zh1 (by decide))
      refine h_tin 100 dX2_violates_1 zh1 (by decide) (by decide) rfl (by decide) ?_
      refine g_iload_n dX2_violates_100 rfl 2 rfl ?_
      refine g_if_le 128 dX2_violates_101 (by decide) (fun h34 => ?_) (fun h34 => ?_)
      · have F := F.1 h34
        refine g_iconst (v := 0) dX2_violates_128 (by decide) ?_
        exact g_zret rfl rfl dX2_violates_129 F
      · have F := F.2 h34
        refine g_aload_n dX2_violates_104 rfl 0 rfl ?_
        refine g_iload_n dX2_violates_105 rfl 2 rfl ?_
        obtain ⟨c24, F⟩ := F
        refine h_callVI (ci := 1) (C := RX2) (T := TX2) (N := 30) (As := [.int p2]) (rest := []) F 1 rfl rfl (lw_V q2192 q2194 qs70 q117 q2195) vm_X2_gapBefore (by decide) rfl c24 rfl (room_of sc_nil (Nat.le_of_ble_eq_true rfl)) dX2_violates_106 (fun r23 Gr23 br23 sr23 F => ?_)
        refine g_iconst (v := 0) dX2_violates_109 (by decide) ?_
        refine g_aload_n dX2_violates_110 rfl 0 rfl ?_
        obtain ⟨c26, F⟩ := F
        refine h_get (v := va_rf (gR Gr23 x 0)) 1 0 (C := RX2) (T := TX2) (N := 30) rfl in_X2 (by decide) q1989 (Or.inl rfl) rfl c26 rfl dX2_violates_111 ?_
        refine g_iconst (v := 2) dX2_violates_114 (by decide) ?_
        obtain ⟨a27, e28, F⟩ := F
        obtain ⟨c29, F⟩ := F
        obtain ⟨k30, F⟩ := F
        refine h_iald e28 c29 k30 dX2_violates_115 ?_
        refine g_iconst (v := 1) dX2_violates_116 (by decide) ?_
        refine g_isub dX2_violates_117 ?_
        refine h_callSI (As := [.int r23, .int 0, .int ((gI Gr23 a27 (2 : Int32).toNatClampNeg) - 1)]) (rest := []) F 3 rfl (lw_S q2085 q2086 q117 q2087) vm_X2_in.2 (by decide) rfl (room_of sc_nil (Nat.le_of_ble_eq_true rfl)) dX2_violates_118 (fun r31 Gr31 br31 sr31 F => ?_)
        refine g_if_eq 128 dX2_violates_121 (by decide) (fun h33 => ?_) (fun h33 => ?_)
        · have F := F.1 h33
          refine g_iconst (v := 0) dX2_violates_128 (by decide) ?_
          exact g_zret rfl rfl dX2_violates_129 F
        · have F := F.2 h33
          refine g_iconst (v := 1) dX2_violates_124 (by decide) ?_
          refine g_goto 129 dX2_violates_125 (by decide) ?_
          exact g_zret rfl rfl dX2_violates_129 F
    · have F := F.2.2.2.1 (tsw_eq zh1 (by decide))
      refine h_tin 130 dX2_violates_1 zh1 (by decide) (by decide) rfl (by decide) ?_
      refine g_aload_n dX2_violates_130 rfl 0 rfl ?_
      refine g_iload_n dX2_violates_131 rfl 2 rfl ?_
      obtain ⟨c36, F⟩ := F
      refine h_callVI (ci := 1) (C := RX2) (T := TX2) (N := 30) (As := [.int p2]) (rest := []) F 1 rfl rfl (lw_V q2196 q2198 qs71 q117 q2199) vm_X2_beginsDuty (by decide) rfl c36 rfl (room_of sc_nil (Nat.le_of_ble_eq_true rfl)) dX2_violates_132 (fun r35 Gr35 br35 sr35 F => ?_)
      refine g_if_eq 156 dX2_violates_135 (by decide) (fun h47 => ?_) (fun h47 => ?_)
      · have F := F.1 h47
        refine g_iconst (v := 0) dX2_violates_156 (by decide) ?_
        exact g_zret rfl rfl dX2_violates_157 F
      · have F := F.2 h47
        refine g_aload_n dX2_violates_138 rfl 0 rfl ?_
        refine g_iload_n dX2_violates_139 rfl 2 rfl ?_
        obtain ⟨c39, F⟩ := F
        refine h_callVI (ci := 1) (C := RX2) (T := TX2) (N := 30) (As := [.int p2]) (rest := []) F 1 rfl rfl (lw_V q2200 q2202 qs72 q117 q2203) vm_X2_dutyMinutes (by decide) rfl c39 rfl (room_of sc_nil (Nat.le_of_ble_eq_true rfl)) dX2_violates_140 (fun r38 Gr38 br38 sr38 F => ?_)
        refine g_aload_n dX2_violates_143 rfl 0 rfl ?_
        obtain ⟨c41, F⟩ := F
        refine h_get (v := va_rf (gR Gr38 x 0)) 1 0 (C := RX2) (T := TX2) (N := 30) rfl in_X2 (by decide) q1989 (Or.inl rfl) rfl c41 rfl dX2_violates_144 ?_
        refine g_iconst (v := 4) dX2_violates_147 (by decide) ?_
        obtain ⟨a42, e43, F⟩ := F
        obtain ⟨c44, F⟩ := F
        obtain ⟨k45, F⟩ := F
        refine h_iald e43 c44 k45 dX2_violates_148 ?_
        refine g_icmp_le 156 dX2_violates_149 (by decide) (fun h46 => ?_) (fun h46 => ?_)
        · have F := F.1 h46
          refine g_iconst (v := 0) dX2_violates_156 (by decide) ?_
          exact g_zret rfl rfl dX2_violates_157 F
        · have F := F.2 h46
          refine g_iconst (v := 1) dX2_violates_152 (by decide) ?_
          refine g_goto 157 dX2_violates_153 (by decide) ?_
          exact g_zret rfl rfl dX2_violates_157 F
    · have F := F.2.2.2.2.1 (tsw_eq zh1 (by decide))
      refine h_tin 158 dX2_violates_1 zh1 (by decide) (by decide) rfl (by decide) ?_
      refine g_aload_n dX2_violates_158 rfl 0 rfl ?_
      refine g_iload_n dX2_violates_159 rfl 2 rfl ?_
      obtain ⟨c49, F⟩ := F
      refine h_callVI (ci := 1) (C := RX2) (T := TX2) (N := 30) (As := [.int p2]) (rest := []) F 1 rfl rfl (lw_V q2196 q2198 qs71 q117 q2199) vm_X2_beginsDuty (by decide) rfl c49 rfl (room_of sc_nil (Nat.le_of_ble_eq_true rfl)) dX2_violates_160 (fun r48 Gr48 br48 sr48 F => ?_)
      refine g_if_eq 189 dX2_violates_163 (by decide) (fun h63 => ?_) (fun h63 => ?_)
      · have F := F.1 h63
        refine g_iconst (v := 0) dX2_violates_189 (by decide) ?_
        exact g_zret rfl rfl dX2_violates_190 F
      · have F := F.2 h63
        refine g_aload_n dX2_violates_166 rfl 0 rfl ?_
        refine g_iload_n dX2_violates_167 rfl 2 rfl ?_
        refine g_aload_n dX2_violates_168 rfl 0 rfl ?_
        refine g_iload_n dX2_violates_169 rfl 2 rfl ?_
        obtain ⟨c52, F⟩ := F
        refine h_callVI (ci := 1) (C := RX2) (T := TX2) (N := 30) (As := [.int p2]) (rest := [.int p2, va_rf (some x)]) F 1 rfl rfl (lw_V q2204 q2206 qs73 q117 q2207) vm_X2_dutyEnd (by decide) rfl c52 rfl (room_of (sc_I (sc_R sc_nil)) (Nat.le_of_ble_eq_true rfl)) dX2_violates_170 (fun r51 Gr51 br51 sr51 F => ?_)
        obtain ⟨c55, F⟩ := F
        refine h_callVI (ci := 1) (C := RX2) (T := TX2) (N := 30) (As := [.int p2, .int r51]) (rest := []) F 2 rfl rfl (lw_V q2208 q2210 qs74 q117 q2211) vm_X2_flownFrom (by decide) rfl c55 rfl (room_of sc_nil (Nat.le_of_ble_eq_true rfl)) dX2_violates_173 (fun r54 Gr54 br54 sr54 F => ?_)
        refine g_aload_n dX2_violates_176 rfl 0 rfl ?_
        obtain ⟨c57, F⟩ := F
        refine h_get (v := va_rf (gR Gr54 x 0)) 1 0 (C := RX2) (T := TX2) (N := 30) rfl in_X2 (by decide) q1989 (Or.inl rfl) rfl c57 rfl dX2_violates_177 ?_
        refine g_iconst (v := 5) dX2_violates_180 (by decide) ?_
        obtain ⟨a58, e59, F⟩ := F
        obtain ⟨c60, F⟩ := F
        obtain ⟨k61, F⟩ := F
        refine h_iald e59 c60 k61 dX2_violates_181 ?_
        refine g_icmp_le 189 dX2_violates_182 (by decide) (fun h62 => ?_) (fun h62 => ?_)
        · have F := F.1 h62
          refine g_iconst (v := 0) dX2_violates_189 (by decide) ?_
          exact g_zret rfl rfl dX2_violates_190 F
        · have F := F.2 h62
          refine g_iconst (v := 1) dX2_violates_185 (by decide) ?_
          refine g_goto 190 dX2_violates_186 (by decide) ?_
          exact g_zret rfl rfl dX2_violates_190 F
    · have F := F.2.2.2.2.2.1 (tsw_eq zh1 (by decide))
      refine h_tin 191 dX2_violates_1 zh1 (by decide) (by decide) rfl (by decide) ?_
      refine g_aload_n dX2_violates_191 rfl 0 rfl ?_
      refine g_iload_n dX2_violates_192 rfl 2 rfl ?_
      obtain ⟨c65, F⟩ := F
      refine h_callVI (ci := 1) (C := RX2) (T := TX2) (N := 30) (As := [.int p2]) (rest := []) F 1 rfl rfl (lw_V q2196 q2198 qs71 q117 q2199) vm_X2_beginsDuty (by decide) rfl c65 rfl (room_of sc_nil (Nat.le_of_ble_eq_true rfl)) dX2_violates_193 (fun r64 Gr64 br64 sr64 F => ?_)
      refine g_if_eq 220 dX2_violates_196 (by decide) (fun h76 => ?_) (fun h76 => ?_)
      · have F := F.1 h76
        refine g_iconst (v := 0) dX2_violates_220 (by decide) ?_
        exact g_zret rfl rfl dX2_violates_221 F
      · have F := F.2 h76
        refine g_aload_n dX2_violates_199 rfl 0 rfl ?_
        refine g_iload_n dX2_violates_200 rfl 2 rfl ?_
        obtain ⟨c68, F⟩ := F
        refine h_callVI (ci := 1) (C := RX2) (T := TX2) (N := 30) (As := [.int p2]) (rest := []) F 1 rfl rfl (lw_V q2204 q2206 qs73 q117 q2207) vm_X2_dutyEnd (by decide) rfl c68 rfl (room_of sc_nil (Nat.le_of_ble_eq_true rfl)) dX2_violates_201 (fun r67 Gr67 br67 sr67 F => ?_)
        refine g_iload_n dX2_violates_204 rfl 2 rfl ?_
        refine g_isub dX2_violates_205 ?_
        refine g_aload_n dX2_violates_206 rfl 0 rfl ?_
        obtain ⟨c70, F⟩ := F
        refine h_get (v := va_rf (gR Gr67 x 0)) 1 0 (C := RX2) (T := TX2) (N := 30) rfl in_X2 (by decide) q1989 (Or.inl rfl) rfl c70 rfl dX2_violates_207 ?_
        refine g_bipush (v := 6) dX2_violates_210 (by decide) ?_
        obtain ⟨a71, e72, F⟩ := F
        obtain ⟨c73, F⟩ := F
        obtain ⟨k74, F⟩ := F
        refine h_iald e72 c73 k74 dX2_violates_212 ?_
        refine g_icmp_le 220 dX2_violates_213 (by decide) (fun h75 => ?_) (fun h75 => ?_)
        · have F := F.1 h75
          refine g_iconst (v := 0) dX2_violates_220 (by decide) ?_
          exact g_zret rfl rfl dX2_violates_221 F
        · have F := F.2 h75
          refine g_iconst (v := 1) dX2_violates_216 (by decide) ?_
          refine g_goto 221 dX2_violates_217 (by decide) ?_
          exact g_zret rfl rfl dX2_violates_221 F
theorem rX2_gapBefore_0 {Γ : GE} {l : Launch} {h MC MS : Nat} {Q : Option Value → GH → Prop} {bc bs : Nat} {G : GH} (x : Nat) (p1 : Int32) (F : (gC G x = kO 1 ∧ cI Γ l h mX2_legAt [.ref x, .int p1] G bc bs fun r1 Gr1 br1 sr1 => gC Gr1 x = kO 1 ∧ cI Γ l h mX2_of [.ref x, .int r1, .int 2] Gr1 br1 sr1 fun r4 Gr4 br4 sr4 => gC Gr4 x = kO 1 ∧ cI Γ l h mX2_legAt [.ref x, .int (p1 - 1)] Gr4 br4 sr4 fun r7 Gr7 br7 sr7 => gC Gr7 x = kO 1 ∧ cI Γ l h mX2_of [.ref x, .int r7, .int 3] Gr7 br7 sr7 fun r10 Gr10 br10 sr10 => Q (some (.int (r4 - r10))) Gr10)) : GW Γ l mX2_gapBefore h MC MS Q 0 [(0, va_rf (some x)), (1, .int p1)] [] G bc bs := by
  refine g_aload_n dX2_gapBefore_0 rfl 0 rfl ?_
  refine g_aload_n dX2_gapBefore_1 rfl 0 rfl ?_
  refine g_iload_n dX2_gapBefore_2 rfl 1 rfl ?_
  obtain ⟨c2, F⟩ := F
  refine h_callVI (ci := 1) (C := RX2) (T := TX2) (N := 30) (As := [.int p1]) (rest := [va_rf (some x)]) F 1 rfl rfl (lw_V q2176 q2178 qs66 q117 q2179) vm_X2_legAt (by decide) rfl c2 rfl (room_of (sc_R sc_nil) (Nat.le_of_ble_eq_true rfl)) dX2_gapBefore_3 (fun r1 Gr1 br1 sr1 F => ?_)
  refine g_iconst (v := 2) dX2_gapBefore_6 (by decide) ?_
  obtain ⟨c5, F⟩ := F
  refine h_callVI (ci := 1) (C := RX2) (T := TX2) (N := 30) (As := [.int r1, .int 2]) (rest := []) F 2 rfl rfl (lw_V q2093 q2095 qs54 q117 q2096) vm_X2_of (by decide) rfl c5 rfl (room_of sc_nil (Nat.le_of_ble_eq_true rfl)) dX2_gapBefore_7 (fun r4 Gr4 br4 sr4 F => ?_)
  refine g_aload_n dX2_gapBefore_10 rfl 0 rfl ?_
  refine g_aload_n dX2_gapBefore_11 rfl 0 rfl ?_
  refine g_iload_n dX2_gapBefore_12 rfl 1 rfl ?_
  refine g_iconst (v := 1) dX2_gapBefore_13 (by decide) ?_
  refine g_isub dX2_gapBefore_14 ?_
  obtain ⟨c8, F⟩ := F
  refine h_callVI (ci := 1) (C := RX2) (T := TX2) (N := 30) (As := [.int (p1 - 1)]) (rest := [va_rf (some x), .int r4]) F 1 rfl rfl (lw_V q2176 q2178 qs66 q117 q2179) vm_X2_legAt (by decide) rfl c8 rfl (room_of (sc_R (sc_I sc_nil)) (Nat.le_of_ble_eq_true rfl)) dX2_gapBefore_15 (fun r7 Gr7 br7 sr7 F => ?_)
  refine g_iconst (v := 3) dX2_gapBefore_18 (by decide) ?_
  obtain ⟨c11, F⟩ := F
  refine h_callVI (ci := 1) (C := RX2) (T := TX2) (N := 30) (As := [.int r7, .int 3]) (rest := [.int r4]) F 2 rfl rfl (lw_V q2093 q2095 qs54 q117 q2096) vm_X2_of (by decide) rfl c11 rfl (room_of (sc_I sc_nil) (Nat.le_of_ble_eq_true rfl)) dX2_gapBefore_19 (fun r10 Gr10 br10 sr10 F => ?_)
  refine g_isub dX2_gapBefore_22 ?_
  exact g_iret rfl dX2_gapBefore_23 F
theorem rX2_beginsDuty_0 {Γ : GE} {l : Launch} {h MC MS : Nat} {Q : Option Value → GH → Prop} {bc bs : Nat} {G : GH} (x : Nat) (p1 : Int32) (F : ((p1 = 0 → (Q (some (.int 1)) G)) ∧ (¬ p1 = 0 → (gC G x = kO 1 ∧ cI Γ l h mX2_gapBefore [.ref x, .int p1] G bc bs fun r1 Gr1 br1 sr1 => gC Gr1 x = kO 1 ∧ ∃ a5, (gR Gr1 x 0) = some a5 ∧ gC Gr1 a5 = kA 0 ∧ vp_in 3 (gL Gr1 a5) ∧ ((r1 < (gI Gr1 a5 (3 : Int32).toNatClampNeg) → (Q (some (.int 0)) Gr1)) ∧ (¬ r1 < (gI Gr1 a5 (3 : Int32).toNatClampNeg) → (Q (some (.int 1)) Gr1))))))) : GW Γ l mX2_beginsDuty h MC MS Q 0 [(0, va_rf (some x)), (1, .int p1)] [] G bc bs := by
  refine g_iload_n dX2_beginsDuty_0 rfl 1 rfl ?_
  refine g_if_eq 18 dX2_beginsDuty_1 (by decide) (fun h10 => ?_) (fun h10 => ?_)
  · have F := F.1 h10
    refine g_iconst (v := 1) dX2_beginsDuty_18 (by decide) ?_
    refine g_goto 23 dX2_beginsDuty_19 (by decide) ?_
    exact g_zret rfl rfl dX2_beginsDuty_23 F
  · have F := F.2 h10
    refine g_aload_n dX2_beginsDuty_4 rfl 0 rfl ?_
    refine g_iload_n dX2_beginsDuty_5 rfl 1 rfl ?_
    obtain ⟨c2, F⟩ := F
    refine h_callVI (ci := 1) (C := RX2) (T := TX2) (N := 30) (As := [.int p1]) (rest := []) F 1 rfl rfl (lw_V q2192 q2194 qs70 q117 q2195) vm_X2_gapBefore (by decide) rfl c2 rfl (room_of sc_nil (Nat.le_of_ble_eq_true rfl)) dX2_beginsDuty_6 (fun r1 Gr1 br1 sr1 F => ?_)
    refine g_aload_n dX2_beginsDuty_9 rfl 0 rfl ?_
    obtain ⟨c4, F⟩ := F
    refine h_get (v := va_rf (gR Gr1 x 0)) 1 0 (C := RX2) (T := TX2) (N := 30) rfl in_X2 (by decide) q1989 (Or.inl rfl) rfl c4 rfl dX2_beginsDuty_10 ?_
    refine g_iconst (v := 3) dX2_beginsDuty_13 (by decide) ?_
    obtain ⟨a5, e6, F⟩ := F
    obtain ⟨c7, F⟩ := F
    obtain ⟨k8, F⟩ := F
    refine h_iald e6 c7 k8 dX2_beginsDuty_14 ?_
    refine g_icmp_lt 22 dX2_beginsDuty_15 (by decide) (fun h9 => ?_) (fun h9 => ?_)
    · have F := F.1 h9
      refine g_iconst (v := 0) dX2_beginsDuty_22 (by decide) ?_
      exact g_zret rfl rfl dX2_beginsDuty_23 F
    · have F := F.2 h9
      refine g_iconst (v := 1) dX2_beginsDuty_18 (by decide) ?_
      refine g_goto 23 dX2_beginsDuty_19 (by decide) ?_
      exact g_zret rfl rfl dX2_beginsDuty_23 F
theorem rX2_dutyMinutes_0 {Γ : GE} {l : Launch} {h MC MS : Nat} {Q : Option Value → GH → Prop} {bc bs : Nat} {G : GH} (x : Nat) (p1 : Int32) (F : (gC G x = kO 1 ∧ cI Γ l h mX2_dutyEnd [.ref x, .int p1] G bc bs fun r1 Gr1 br1 sr1 => gC Gr1 x = kO 1 ∧ cI Γ l h mX2_legAt [.ref x, .int (r1 - 1)] Gr1 br1 sr1 fun r4 Gr4 br4 sr4 => gC Gr4 x = kO 1 ∧ cI Γ l h mX2_of [.ref x, .int r4, .int 3] Gr4 br4 sr4 fun r7 Gr7 br7 sr7 => gC Gr7 x = kO 1 ∧ cI Γ l h mX2_legAt [.ref x, .int p1] Gr7 br7 sr7 fun r10 Gr10 br10 sr10 => gC Gr10 x = kO 1 ∧ cI Γ l h mX2_of [.ref x, .int r10, .int 2] Gr10 br10 sr10 fun r13 Gr13 br13 sr13 => Q (some (.int (r7 - r13))) Gr13)) : GW Γ l mX2_dutyMinutes h MC MS Q 0 [(0, va_rf (some x)), (1, .int p1)] [] G bc bs := by
  refine g_aload_n dX2_dutyMinutes_0 rfl 0 rfl ?_
  refine g_aload_n dX2_dutyMinutes_1 rfl 0 rfl ?_
  refine g_aload_n dX2_dutyMinutes_2 rfl 0 rfl ?_
  refine g_iload_n dX2_dutyMinutes_3 rfl 1 rfl ?_
  obtain ⟨c2, F⟩ := F
  refine h_callVI (ci := 1) (C := RX2) (T := TX2) (N := 30) (As := [.int p1]) (rest := [va_rf (some x), va_rf (some x)]) F 1 rfl rfl (lw_V q2204 q2206 qs73 q117 q2207) vm_X2_dutyEnd (by decide) rfl c2 rfl (room_of (sc_R (sc_R sc_nil)) (Nat.le_of_ble_eq_true rfl)) dX2_dutyMinutes_4 (fun r1 Gr1 br1 sr1 F => ?_)
  refine g_iconst (v := 1) dX2_dutyMinutes_7 (by decide) ?_
  refine g_isub dX2_dutyMinutes_8 ?_
  obtain ⟨c5, F⟩ := F
  refine h_callVI (ci := 1) (C := RX2) (T := TX2) (N := 30) (As := [.int (r1 - 1)]) (rest := [va_rf (some x)]) F 1 rfl rfl (lw_V q2176 q2178 qs66 q117 q2179) vm_X2_legAt (by decide) rfl c5 rfl (room_of (sc_R sc_nil) (Nat.le_of_ble_eq_true rfl)) dX2_dutyMinutes_9 (fun r4 Gr4 br4 sr4 F => ?_)
  refine g_iconst (v := 3) dX2_dutyMinutes_12 (by decide) ?_
  obtain ⟨c8, F⟩ := F
  refine h_callVI (ci := 1) (C := RX2) (T := TX2) (N := 30) (As := [.int r4, .int 3]) (rest := []) F 2 rfl rfl (lw_V q2093 q2095 qs54 q117 q2096) vm_X2_of (by decide) rfl c8 rfl (room_of sc_nil (Nat.le_of_ble_eq_true rfl)) dX2_dutyMinutes_13 (fun r7 Gr7 br7 sr7 F => ?_)
  refine g_aload_n dX2_dutyMinutes_16 rfl 0 rfl ?_
  refine g_aload_n dX2_dutyMinutes_17 rfl 0 rfl ?_
  refine g_iload_n dX2_dutyMinutes_18 rfl 1 rfl ?_
  obtain ⟨c11, F⟩ := F
  refine h_callVI (ci := 1) (C := RX2) (T := TX2) (N := 30) (As := [.int p1]) (rest := [va_rf (some x), .int r7]) F 1 rfl rfl (lw_V q2176 q2178 qs66 q117 q2179) vm_X2_legAt (by decide) rfl c11 rfl (room_of (sc_R (sc_I sc_nil)) (Nat.le_of_ble_eq_true rfl)) dX2_dutyMinutes_19 (fun r10 Gr10 br10 sr10 F => ?_)
  refine g_iconst (v := 2) dX2_dutyMinutes_22 (by decide) ?_
  obtain ⟨c14, F⟩ := F
  refine h_callVI (ci := 1) (C := RX2) (T := TX2) (N := 30) (As := [.int r10, .int 2]) (rest := [.int r7]) F 2 rfl rfl (lw_V q2093 q2095 qs54 q117 q2096) vm_X2_of (by decide) rfl c14 rfl (room_of (sc_I sc_nil) (Nat.le_of_ble_eq_true rfl)) dX2_dutyMinutes_23 (fun r13 Gr13 br13 sr13 F => ?_)
  refine g_isub dX2_dutyMinutes_26 ?_
  exact g_iret rfl dX2_dutyMinutes_27 F
theorem rX2_dutyEnd_0 {Γ : GE} {l : Launch} {h MC MS : Nat} {Q : Option Value → GH → Prop} {bc bs : Nat} {G : GH} (x : Nat) (p1 : Int32) (F : (GW Γ l mX2_dutyEnd h MC MS Q 4 [(0, va_rf (some x)), (1, .int p1), (2, .int (p1 + 1))] [] G bc bs)) : GW Γ l mX2_dutyEnd h MC MS Q 0 [(0, va_rf (some x)), (1, .int p1)] [] G bc bs := by
  refine g_iload_n dX2_dutyEnd_0 rfl 1 rfl ?_
  refine g_iconst (v := 1) dX2_dutyEnd_1 (by decide) ?_
  refine g_iadd dX2_dutyEnd_2 ?_
  refine s_istore_n (lv' := [(0, va_rf (some x)), (1, .int p1), (2, .int (p1 + 1))]) (cat_R (cat_I cat_nil)) dX2_dutyEnd_3 rfl (by decide) rfl [1, 2, 0] rfl ?_
  exact F
theorem rX2_dutyEnd_4 {Γ : GE} {l : Launch} {h MC MS : Nat} {Q : Option Value → GH → Prop} {bc bs : Nat} {G : GH} (x : Nat) (p1 : Int32) (p2 : Int32) (F : (gC G x = kO 1 ∧ (((gI G x 8) ≤ p2 → (Q (some (.int p2)) G)) ∧ (¬ (gI G x 8) ≤ p2 → (cI Γ l h mX2_beginsDuty [.ref x, .int p2] G bc bs fun r2 Gr2 br2 sr2 => ((¬ r2 = 0 → (Q (some (.int p2)) Gr2)) ∧ (r2 = 0 → (GW Γ l mX2_dutyEnd h MC MS Q 4 [(0, va_rf (some x)), (1, .int p1), (2, .int (p2 + 1))] [] Gr2 br2 sr2)))))))) : GW Γ l mX2_dutyEnd h MC MS Q 4 [(0, va_rf (some x)), (1, .int p1), (2, .int p2)] [] G bc bs := by
  refine g_iload_n dX2_dutyEnd_4 rfl 2 rfl ?_
  refine g_aload_n dX2_dutyEnd_5 rfl 0 rfl ?_
  obtain ⟨c1, F⟩ := F
  refine h_get (v := .int (gI G x 8)) 1 8 (C := RX2) (T := TX2) (N := 30) rfl in_X2 (by decide) q1997 (Or.inl rfl) rfl c1 rfl dX2_dutyEnd_6 ?_
  refine g_icmp_ge 26 dX2_dutyEnd_9 (by decide) (fun h5 => ?_) (fun h5 => ?_)
  · have F := F.1 h5
    refine g_iload_n dX2_dutyEnd_26 rfl 2 rfl ?_
    exact g_iret rfl dX2_dutyEnd_27 F
  · have F := F.2 h5
    refine g_aload_n dX2_dutyEnd_12 rfl 0 rfl ?_
    refine g_iload_n dX2_dutyEnd_13 rfl 2 rfl ?_
    refine h_callVI (ci := 1) (C := RX2) (T := TX2) (N := 30) (As := [.int p2]) (rest := []) F 1 rfl rfl (lw_V q2196 q2198 qs71 q117 q2199) vm_X2_beginsDuty (by decide) rfl c1 rfl (room_of sc_nil (Nat.le_of_ble_eq_true rfl)) dX2_dutyEnd_14 (fun r2 Gr2 br2 sr2 F => ?_)
    refine g_if_ne 26 dX2_dutyEnd_17 (by decide) (fun h4 => ?_) (fun h4 => ?_)
    · have F := F.1 h4
      refine g_iload_n dX2_dutyEnd_26 rfl 2 rfl ?_
      exact g_iret rfl dX2_dutyEnd_27 F
    · have F := F.2 h4
      refine s_iinc (v := (p2 + 1)) (lv' := [(0, va_rf (some x)), (1, .int p1), (2, .int (p2 + 1))]) (cat_R (cat_I (cat_I cat_nil))) dX2_dutyEnd_20 (k0 := 2) rfl rfl (by decide) rfl [1, 2, 0] rfl ?_
      refine g_goto 4 dX2_dutyEnd_23 (by decide) ?_
      exact F
theorem rX2_flownFrom_0 {Γ : GE} {l : Launch} {h MC MS : Nat} {Q : Option Value → GH → Prop} {bc bs : Nat} {G : GH} (x : Nat) (p1 : Int32) (p2 : Int32) (F : (GW Γ l mX2_flownFrom h MC MS Q 5 [(0, va_rf (some x)), (1, .int p1), (2, .int p2), (3, .int 0), (4, .int p1)] [] G bc bs)) : GW Γ l mX2_flownFrom h MC MS Q 0 [(0, va_rf (some x)), (1, .int p1), (2, .int p2)] [] G bc bs := by
  refine g_iconst (v := 0) dX2_flownFrom_0 (by decide) ?_
  refine s_istore_n (lv' := [(0, va_rf (some x)), (1, .int p1), (2, .int p2), (3, .int 0)]) (cat_R (cat_I (cat_I cat_nil))) dX2_flownFrom_1 rfl (by decide) rfl [1, 2, 3, 0] rfl ?_
  refine g_iload_n dX2_flownFrom_2 rfl 1 rfl ?_
  refine s_istore (lv' := [(0, va_rf (some x)), (1, .int p1), (2, .int p2), (3, .int 0), (4, .int p1)]) (cat_R (cat_I (cat_I (cat_I cat_nil)))) dX2_flownFrom_3 (by decide) rfl [1, 2, 3, 4, 0] rfl ?_
  exact F
theorem rX2_flownFrom_5 {Γ : GE} {l : Launch} {h MC MS : Nat} {Q : Option Value → GH → Prop} {bc bs : Nat} {G : GH} (x : Nat) (p1 : Int32) (p2 : Int32) (p3 : Int32) (p4 : Int32) (F : ((p2 ≤ p4 → (Q (some (.int p3)) G)) ∧ (¬ p2 ≤ p4 → (gC G x = kO 1 ∧ cI Γ l h mX2_isFlown [.ref x, .int p4] G bc bs fun r1 Gr1 br1 sr1 => ((r1 = 0 → (GW Γ l mX2_flownFrom h MC MS Q 5 [(0, va_rf (some x)), (1, .int p1), (2, .int p2), (3, .int (p3 + 0)), (4, .int (p4 + 1))] [] Gr1 br1 sr1)) ∧ (¬ r1 = 0 → (gC Gr1 x = kO 1 ∧ cI Γ l h mX2_legAt [.ref x, .int p4] Gr1 br1 sr1 fun r4 Gr4 br4 sr4 => gC Gr4 x = kO 1 ∧ cI Γ l h mX2_lengthOf [.ref x, .int r4] Gr4 br4 sr4 fun r7 Gr7 br7 sr7 => GW Γ l mX2_flownFrom h MC MS Q 5 [(0, va_rf (some x)), (1, .int p1), (2, .int p2), (3, .int (p3 + r7)), (4, .int (p4 + 1))] [] Gr7 br7 sr7))))))) : GW Γ l mX2_flownFrom h MC MS Q 5 [(0, va_rf (some x)), (1, .int p1), (2, .int p2), (3, .int p3), (4, .int p4)] [] G bc bs := by
  refine g_iload dX2_flownFrom_5 4 rfl ?_
  refine g_iload_n dX2_flownFrom_7 rfl 2 rfl ?_
  refine g_icmp_ge 43 dX2_flownFrom_8 (by decide) (fun h11 => ?_) (fun h11 => ?_)
  · have F := F.1 h11
    refine g_iload_n dX2_flownFrom_43 rfl 3 rfl ?_
    exact g_iret rfl dX2_flownFrom_44 F
  · have F := F.2 h11
    refine g_iload_n dX2_flownFrom_11 rfl 3 rfl ?_
    refine g_aload_n dX2_flownFrom_12 rfl 0 rfl ?_
    refine g_iload dX2_flownFrom_13 4 rfl ?_
    obtain ⟨c2, F⟩ := F
    refine h_callVI (ci := 1) (C := RX2) (T := TX2) (N := 30) (As := [.int p4]) (rest := [.int p3]) F 1 rfl rfl (lw_V q2212 q2214 qs75 q117 q2215) vm_X2_isFlown (by decide) rfl c2 rfl (room_of (sc_I sc_nil) (Nat.le_of_ble_eq_true rfl)) dX2_flownFrom_15 (fun r1 Gr1 br1 sr1 F => ?_)
    refine g_if_eq 34 dX2_flownFrom_18 (by decide) (fun h10 => ?_) (fun h10 => ?_)
    · have F := F.1 h10
      refine g_iconst (v := 0) dX2_flownFrom_34 (by decide) ?_
      refine g_iadd dX2_flownFrom_35 ?_
      refine s_istore_n (lv' := [(0, va_rf (some x)), (1, .int p1), (2, .int p2), (3, .int (p3 + 0)), (4, .int p4)]) (cat_R (cat_I (cat_I (cat_I (cat_I cat_nil))))) dX2_flownFrom_36 rfl (by decide) rfl [1, 2, 3, 0, 4] rfl ?_
      refine s_iinc (v := (p4 + 1)) (lv' := [(0, va_rf (some x)), (1, .int p1), (2, .int p2), (3, .int (p3 + 0)), (4, .int (p4 + 1))]) (cat_R (cat_I (cat_I (cat_I (cat_I cat_nil))))) dX2_flownFrom_37 (k0 := 4) rfl rfl (by decide) rfl [1, 2, 3, 4, 0] rfl ?_
      refine g_goto 5 dX2_flownFrom_40 (by decide) ?_
      exact F
    · have F := F.2 h10
      refine g_aload_n dX2_flownFrom_21 rfl 0 rfl ?_
      refine g_aload_n dX2_flownFrom_22 rfl 0 rfl ?_
      refine g_iload dX2_flownFrom_23 4 rfl ?_
      obtain ⟨c5, F⟩ := F
      refine h_callVI (ci := 1) (C := RX2) (T := TX2) (N := 30) (As := [.int p4]) (rest := [va_rf (some x), .int p3]) F 1 rfl rfl (lw_V q2176 q2178 qs66 q117 q2179) vm_X2_legAt (by decide) rfl c5 rfl (room_of (sc_R (sc_I sc_nil)) (Nat.le_of_ble_eq_true rfl)) dX2_flownFrom_25 (fun r4 Gr4 br4 sr4 F => ?_)
      obtain ⟨c8, F⟩ := F
      refine h_callVI (ci := 1) (C := RX2) (T := TX2) (N := 30) (As := [.int r4]) (rest := [.int p3]) F 1 rfl rfl (lw_V q2216 q2218 qs76 q117 q2219) vm_X2_lengthOf (by decide) rfl c8 rfl (room_of (sc_I sc_nil) (Nat.le_of_ble_eq_true rfl)) dX2_flownFrom_28 (fun r7 Gr7 br7 sr7 F => ?_)
      refine g_goto 35 dX2_flownFrom_31 (by decide) ?_
      refine g_iadd dX2_flownFrom_35 ?_
      refine s_istore_n (lv' := [(0, va_rf (some x)), (1, .int p1), (2, .int p2), (3, .int (p3 + r7)), (4, .int p4)]) (cat_R (cat_I (cat_I (cat_I (cat_I cat_nil))))) dX2_flownFrom_36 rfl (by decide) rfl [1, 2, 3, 0, 4] rfl ?_
      refine s_iinc (v := (p4 + 1)) (lv' := [(0, va_rf (some x)), (1, .int p1), (2, .int p2), (3, .int (p3 + r7)), (4, .int (p4 + 1))]) (cat_R (cat_I (cat_I (cat_I (cat_I cat_nil))))) dX2_flownFrom_37 (k0 := 4) rfl rfl (by decide) rfl [1, 2, 3, 4, 0] rfl ?_
      refine g_goto 5 dX2_flownFrom_40 (by decide) ?_
      exact F
theorem rX2_isFlown_0 {Γ : GE} {l : Launch} {h MC MS : Nat} {Q : Option Value → GH → Prop} {bc bs : Nat} {G : GH} (x : Nat) (p1 : Int32) (F : (gC G x = kO 1 ∧ ∃ a2, (gR G x 7) = some a2 ∧ gC G a2 = kA 0 ∧ vp_in p1 (gL G a2) ∧ ((¬ ((gI G a2 p1.toNatClampNeg) - (gI G a2 p1.toNatClampNeg) / 2 * 2) = 1 → (Q (some (.int 0)) G)) ∧ (((gI G a2 p1.toNatClampNeg) - (gI G a2 p1.toNatClampNeg) / 2 * 2) = 1 → (Q (some (.int 1)) G))))) : GW Γ l mX2_isFlown h MC MS Q 0 [(0, va_rf (some x)), (1, .int p1)] [] G bc bs := by
  refine g_aload_n dX2_isFlown_0 rfl 0 rfl ?_
  obtain ⟨c1, F⟩ := F
  refine h_get (v := va_rf (gR G x 7)) 1 7 (C := RX2) (T := TX2) (N := 30) rfl in_X2 (by decide) q1996 (Or.inl rfl) rfl c1 rfl dX2_isFlown_1 ?_
  refine g_iload_n dX2_isFlown_4 rfl 1 rfl ?_
  obtain ⟨a2, e3, F⟩ := F
  obtain ⟨c4, F⟩ := F
  obtain ⟨k5, F⟩ := F
  refine h_iald e3 c4 k5 dX2_isFlown_5 ?_
  refine g_iconst (v := 2) dX2_isFlown_6 (by decide) ?_
  refine g_irem dX2_isFlown_7 (by decide) ?_
  refine g_iconst (v := 1) dX2_isFlown_8 (by decide) ?_
  refine g_icmp_ne 16 dX2_isFlown_9 (by decide) (fun h6 => ?_) (fun h6 => ?_)
  · have F := F.1 h6
    refine g_iconst (v := 0) dX2_isFlown_16 (by decide) ?_
    exact g_zret rfl rfl dX2_isFlown_17 F
  · have F := F.2 h6
    refine g_iconst (v := 1) dX2_isFlown_12 (by decide) ?_
    refine g_goto 17 dX2_isFlown_13 (by decide) ?_
    exact g_zret rfl rfl dX2_isFlown_17 F
theorem rX2_lengthOf_0 {Γ : GE} {l : Launch} {h MC MS : Nat} {Q : Option Value → GH → Prop} {bc bs : Nat} {G : GH} (x : Nat) (p1 : Int32) (F : (gC G x = kO 1 ∧ cI Γ l h mX2_of [.ref x, .int p1, .int 3] G bc bs fun r1 Gr1 br1 sr1 => gC Gr1 x = kO 1 ∧ cI Γ l h mX2_of [.ref x, .int p1, .int 2] Gr1 br1 sr1 fun r4 Gr4 br4 sr4 => Q (some (.int (r1 - r4))) Gr4)) : GW Γ l mX2_lengthOf h MC MS Q 0 [(0, va_rf (some x)), (1, .int p1)] [] G bc bs := by
  refine g_aload_n dX2_lengthOf_0 rfl 0 rfl ?_
  refine g_iload_n dX2_lengthOf_1 rfl 1 rfl ?_
  refine g_iconst (v := 3) dX2_lengthOf_2 (by decide) ?_
  obtain ⟨c2, F⟩ := F
  refine h_callVI (ci := 1) (C := RX2) (T := TX2) (N := 30) (As := [.int p1, .int 3]) (rest := []) F 2 rfl rfl (lw_V q2093 q2095 qs54 q117 q2096) vm_X2_of (by decide) rfl c2 rfl (room_of sc_nil (Nat.le_of_ble_eq_true rfl)) dX2_lengthOf_3 (fun r1 Gr1 br1 sr1 F => ?_)
  refine g_aload_n dX2_lengthOf_6 rfl 0 rfl ?_
  refine g_iload_n dX2_lengthOf_7 rfl 1 rfl ?_
  refine g_iconst (v := 2) dX2_lengthOf_8 (by decide) ?_
  obtain ⟨c5, F⟩ := F
  refine h_callVI (ci := 1) (C := RX2) (T := TX2) (N := 30) (As := [.int p1, .int 2]) (rest := [.int r1]) F 2 rfl rfl (lw_V q2093 q2095 qs54 q117 q2096) vm_X2_of (by decide) rfl c5 rfl (room_of (sc_I sc_nil) (Nat.le_of_ble_eq_true rfl)) dX2_lengthOf_9 (fun r4 Gr4 br4 sr4 F => ?_)
  refine g_isub dX2_lengthOf_12 ?_
  exact g_iret rfl dX2_lengthOf_13 F
theorem rX2_flownWithin_0 {Γ : GE} {l : Launch} {h MC MS : Nat} {Q : Option Value → GH → Prop} {bc bs : Nat} {G : GH} (x : Nat) (p1 : Int32) (p2 : Int32) (F : (GW Γ l mX2_flownWithin h MC MS Q 5 [(0, va_rf (some x)), (1, .int p1), (2, .int p2), (3, .int 0), (4, .int 0)] [] G bc bs)) : GW Γ l mX2_flownWithin h MC MS Q 0 [(0, va_rf (some x)), (1, .int p1), (2, .int p2)] [] G bc bs := by
  refine g_iconst (v := 0) dX2_flownWithin_0 (by decide) ?_
  refine s_istore_n (lv' := [(0, va_rf (some x)), (1, .int p1), (2, .int p2), (3, .int 0)]) (cat_R (cat_I (cat_I cat_nil))) dX2_flownWithin_1 rfl (by decide) rfl [1, 2, 3, 0] rfl ?_
  refine g_iconst (v := 0) dX2_flownWithin_2 (by decide) ?_
  refine s_istore (lv' := [(0, va_rf (some x)), (1, .int p1), (2, .int p2), (3, .int 0), (4, .int 0)]) (cat_R (cat_I (cat_I (cat_I cat_nil)))) dX2_flownWithin_3 (by decide) rfl [1, 2, 3, 4, 0] rfl ?_
  exact F
theorem rX2_flownWithin_5 {Γ : GE} {l : Launch} {h MC MS : Nat} {Q : Option Value → GH → Prop} {bc bs : Nat} {G : GH} (x : Nat) (p1 : Int32) (p2 : Int32) (p3 : Int32) (p4 : Int32) (F : (gC G x = kO 1 ∧ (((gI G x 8) ≤ p4 → (Q (some (.int p3)) G)) ∧ (¬ (gI G x 8) ≤ p4 → (cI Γ l h mX2_legAt [.ref x, .int p4] G bc bs fun r2 Gr2 br2 sr2 => gC Gr2 x = kO 1 ∧ cI Γ l h mX2_of [.ref x, .int r2, .int 2] Gr2 br2 sr2 fun r4 Gr4 br4 sr4 => cI Γ l h mJ7_max [.int p1, .int r4] Gr4 br4 sr4 fun r7 Gr7 br7 sr7 => gC Gr7 x = kO 1 ∧ cI Γ l h mX2_legAt [.ref x, .int p4] Gr7 br7 sr7 fun r9 Gr9 br9 sr9 => gC Gr9 x = kO 1 ∧ cI Γ l h mX2_of [.ref x, .int r9, .int 3] Gr9 br9 sr9 fun r12 Gr12 br12 sr12 => cI Γ l h mJ7_min [.int (p1 + p2), .int r12] Gr12 br12 sr12 fun r15 Gr15 br15 sr15 => gC Gr15 x = kO 1 ∧ cI Γ l h mX2_isFlown [.ref x, .int p4] Gr15 br15 sr15 fun r17 Gr17 br17 sr17 => ((r17 = 0 → (GW Γ l mX2_flownWithin h MC MS Q 5 [(0, va_rf (some x)), (1, .int p1), (2, .int p2), (3, .int (p3 + 0)), (4, .int (p4 + 1))] [] Gr17 br17 sr17)) ∧ (¬ r17 = 0 → (cI Γ l h mJ7_max [.int 0, .int (r15 - r7)] Gr17 br17 sr17 fun r20 Gr20 br20 sr20 => GW Γ l mX2_flownWithin h MC MS Q 5 [(0, va_rf (some x)), (1, .int p1), (2, .int p2), (3, .int (p3 + r20)), (4, .int (p4 + 1))] [] Gr20 br20 sr20)))))))) : GW Γ l mX2_flownWithin h MC MS Q 5 [(0, va_rf (some x)), (1, .int p1), (2, .int p2), (3, .int p3), (4, .int p4)] [] G bc bs := by
  refine g_iload dX2_flownWithin_5 4 rfl ?_
  refine g_aload_n dX2_flownWithin_7 rfl 0 rfl ?_
  obtain ⟨c1, F⟩ := F
  refine h_get (v := .int (gI G x 8)) 1 8 (C := RX2) (T := TX2) (N := 30) rfl in_X2 (by decide) q1997 (Or.inl rfl) rfl c1 rfl dX2_flownWithin_8 ?_
  refine g_icmp_ge 81 dX2_flownWithin_11 (by decide) (fun h23 => ?_) (fun h23 => ?_)
  · have F := F.1 h23
    refine g_iload_n dX2_flownWithin_81 rfl 3 rfl ?_
    exact g_iret rfl dX2_flownWithin_82 F
  · have F := F.2 h23
    refine g_iload_n dX2_flownWithin_14 rfl 1 rfl ?_
    refine g_aload_n dX2_flownWithin_15 rfl 0 rfl ?_
    refine g_aload_n dX2_flownWithin_16 rfl 0 rfl ?_
    refine g_iload dX2_flownWithin_17 4 rfl ?_
    refine h_callVI (ci := 1) (C := RX2) (T := TX2) (N := 30) (As := [.int p4]) (rest := [va_rf (some x), .int p1]) F 1 rfl rfl (lw_V q2176 q2178 qs66 q117 q2179) vm_X2_legAt (by decide) rfl c1 rfl (room_of (sc_R (sc_I sc_nil)) (Nat.le_of_ble_eq_true rfl)) dX2_flownWithin_19 (fun r2 Gr2 br2 sr2 F => ?_)
    refine g_iconst (v := 2) dX2_flownWithin_22 (by decide) ?_
    obtain ⟨c5, F⟩ := F
    refine h_callVI (ci := 1) (C := RX2) (T := TX2) (N := 30) (As := [.int r2, .int 2]) (rest := [.int p1]) F 2 rfl rfl (lw_V q2093 q2095 qs54 q117 q2096) vm_X2_of (by decide) rfl c5 rfl (room_of (sc_I sc_nil) (Nat.le_of_ble_eq_true rfl)) dX2_flownWithin_23 (fun r4 Gr4 br4 sr4 F => ?_)
    refine h_callSI (As := [.int p1, .int r4]) (rest := []) F 2 rfl (lw_S q2224 q397 q119 q398) vm_J7_max.2 (by decide) rfl (room_of sc_nil (Nat.le_of_ble_eq_true rfl)) dX2_flownWithin_26 (fun r7 Gr7 br7 sr7 F => ?_)
    refine s_istore (lv' := [(0, va_rf (some x)), (1, .int p1), (2, .int p2), (3, .int p3), (4, .int p4), (5, .int r7)]) (cat_R (cat_I (cat_I (cat_I (cat_I cat_nil))))) dX2_flownWithin_29 (by decide) rfl [1, 2, 3, 4, 5, 0] rfl ?_
    refine g_iload_n dX2_flownWithin_31 rfl 1 rfl ?_
    refine g_iload_n dX2_flownWithin_32 rfl 2 rfl ?_
    refine g_iadd dX2_flownWithin_33 ?_
    refine g_aload_n dX2_flownWithin_34 rfl 0 rfl ?_
    refine g_aload_n dX2_flownWithin_35 rfl 0 rfl ?_
    refine g_iload dX2_flownWithin_36 4 rfl ?_
    obtain ⟨c10, F⟩ := F
    refine h_callVI (ci := 1) (C := RX2) (T := TX2) (N := 30) (As := [.int p4]) (rest := [va_rf (some x), .int (p1 + p2)]) F 1 rfl rfl (lw_V q2176 q2178 qs66 q117 q2179) vm_X2_legAt (by decide) rfl c10 rfl (room_of (sc_R (sc_I sc_nil)) (Nat.le_of_ble_eq_true rfl)) dX2_flownWithin_38 (fun r9 Gr9 br9 sr9 F => ?_)
    refine g_iconst (v := 3) dX2_flownWithin_41 (by decide) ?_
    obtain ⟨c13, F⟩ := F
    refine h_callVI (ci := 1) (C := RX2) (T := TX2) (N := 30) (As := [.int r9, .int 3]) (rest := [.int (p1 + p2)]) F 2 rfl rfl (lw_V q2093 q2095 qs54 q117 q2096) vm_X2_of (by decide) rfl c13 rfl (room_of (sc_I sc_nil) (Nat.le_of_ble_eq_true rfl)) dX2_flownWithin_42 (fun r12 Gr12 br12 sr12 F => ?_)
    refine h_callSI (As := [.int (p1 + p2), .int r12]) (rest := []) F 2 rfl (lw_S q2088 q435 q119 q436) vm_J7_min.2 (by decide) rfl (room_of sc_nil (Nat.le_of_ble_eq_true rfl)) dX2_flownWithin_45 (fun r15 Gr15 br15 sr15 F => ?_)
    refine s_istore (lv' := [(0, va_rf (some x)), (1, .int p1), (2, .int p2), (3, .int p3), (4, .int p4), (5, .int r7), (6, .int r15)]) (cat_R (cat_I (cat_I (cat_I (cat_I (cat_I cat_nil)))))) dX2_flownWithin_48 (by decide) rfl [1, 2, 3, 4, 5, 6, 0] rfl ?_
    refine g_iload_n dX2_flownWithin_50 rfl 3 rfl ?_
    refine g_aload_n dX2_flownWithin_51 rfl 0 rfl ?_
    refine g_iload dX2_flownWithin_52 4 rfl ?_
    obtain ⟨c18, F⟩ := F
    refine h_callVI (ci := 1) (C := RX2) (T := TX2) (N := 30) (As := [.int p4]) (rest := [.int p3]) F 1 rfl rfl (lw_V q2212 q2214 qs75 q117 q2215) vm_X2_isFlown (by decide) rfl c18 rfl (room_of (sc_I sc_nil) (Nat.le_of_ble_eq_true rfl)) dX2_flownWithin_54 (fun r17 Gr17 br17 sr17 F => ?_)
    refine g_if_eq 72 dX2_flownWithin_57 (by decide) (fun h22 => ?_) (fun h22 => ?_)
    · have F := F.1 h22
      refine g_iconst (v := 0) dX2_flownWithin_72 (by decide) ?_
      refine g_iadd dX2_flownWithin_73 ?_
      refine s_istore_n (lv' := [(0, va_rf (some x)), (1, .int p1), (2, .int p2), (3, .int (p3 + 0)), (4, .int p4), (5, .int r7), (6, .int r15)]) (cat_R (cat_I (cat_I (cat_I (cat_I (cat_I (cat_I cat_nil))))))) dX2_flownWithin_74 rfl (by decide) rfl [1, 2, 3, 0, 4, 5, 6] rfl ?_
      refine s_iinc (v := (p4 + 1)) (lv' := [(0, va_rf (some x)), (1, .int p1), (2, .int p2), (3, .int (p3 + 0)), (4, .int (p4 + 1)), (5, .int r7), (6, .int r15)]) (cat_R (cat_I (cat_I (cat_I (cat_I (cat_I (cat_I cat_nil))))))) dX2_flownWithin_75 (k0 := 4) rfl rfl (by decide) rfl [1, 2, 3, 4, 0, 5, 6] rfl ?_
      refine g_goto 5 dX2_flownWithin_78 (by decide) ?_
      refine GW.lsub (lv' := [(0, va_rf (some x)), (1, .int p1), (2, .int p2), (3, .int (p3 + 0)), (4, .int (p4 + 1))]) [0, 1, 2, 3, 4] rfl ?_
      exact F
    · have F := F.2 h22
      refine g_iconst (v := 0) dX2_flownWithin_60 (by decide) ?_
      refine g_iload dX2_flownWithin_61 6 rfl ?_
      refine g_iload dX2_flownWithin_63 5 rfl ?_
      refine g_isub dX2_flownWithin_65 ?_
      refine h_callSI (As := [.int 0, .int (r15 - r7)]) (rest := [.int p3]) F 2 rfl (lw_S q2224 q397 q119 q398) vm_J7_max.2 (by decide) rfl (room_of (sc_I sc_nil) (Nat.le_of_ble_eq_true rfl)) dX2_flownWithin_66 (fun r20 Gr20 br20 sr20 F => ?_)
      refine g_goto 73 dX2_flownWithin_69 (by decide) ?_
      refine g_iadd dX2_flownWithin_73 ?_
      refine s_istore_n (lv' := [(0, va_rf (some x)), (1, .int p1), (2, .int p2), (3, .int (p3 + r20)), (4, .int p4), (5, .int r7), (6, .int r15)]) (cat_R (cat_I (cat_I (cat_I (cat_I (cat_I (cat_I cat_nil))))))) dX2_flownWithin_74 rfl (by decide) rfl [1, 2, 3, 0, 4, 5, 6] rfl ?_
      refine s_iinc (v := (p4 + 1)) (lv' := [(0, va_rf (some x)), (1, .int p1), (2, .int p2), (3, .int (p3 + r20)), (4, .int (p4 + 1)), (5, .int r7), (6, .int r15)]) (cat_R (cat_I (cat_I (cat_I (cat_I (cat_I (cat_I cat_nil))))))) dX2_flownWithin_75 (k0 := 4) rfl rfl (by decide) rfl [1, 2, 3, 4, 0, 5, 6] rfl ?_
      refine g_goto 5 dX2_flownWithin_78 (by decide) ?_
      refine GW.lsub (lv' := [(0, va_rf (some x)), (1, .int p1), (2, .int p2), (3, .int (p3 + r20)), (4, .int (p4 + 1))]) [0, 1, 2, 3, 4] rfl ?_
      exact F
theorem rX2_takeOut_0 {Γ : GE} {l : Launch} {h MC MS : Nat} {Q : Option Value → GH → Prop} {bc bs : Nat} {G : GH} (x : Nat) (p1 : Int32) (F : (gC G x = kO 1 ∧ gM G x = true ∧ GW Γ l mX2_takeOut h MC MS Q 12 [(0, va_rf (some x)), (1, .int p1), (2, .int p1)] [] (sI G x 8 ((gI G x 8) - 1)) bc bs)) : GW Γ l mX2_takeOut h MC MS Q 0 [(0, va_rf (some x)), (1, .int p1)] [] G bc bs := by
  refine g_aload_n dX2_takeOut_0 rfl 0 rfl ?_
  refine g_dup dX2_takeOut_1 (va_rf_cat _) ?_
  obtain ⟨c1, F⟩ := F
  refine h_get (v := .int (gI G x 8)) 1 8 (C := RX2) (T := TX2) (N := 30) rfl in_X2 (by decide) q1997 (Or.inl rfl) rfl c1 rfl dX2_takeOut_2 ?_
  refine g_iconst (v := 1) dX2_takeOut_5 (by decide) ?_
  refine g_isub dX2_takeOut_6 ?_
  obtain ⟨m2, F⟩ := F
  refine h_putI (mi := mX2_takeOut) 1 8 (C := RX2) (T := TX2) (N := 30) rfl in_X2 tyX2_ok nmX2 (by decide) q1997 (Or.inl rfl) (Or.inl rfl) rfl rfl c1 m2 rfl rfl dX2_takeOut_7 ?_
  refine g_iload_n dX2_takeOut_10 rfl 1 rfl ?_
  refine s_istore_n (lv' := [(0, va_rf (some x)), (1, .int p1), (2, .int p1)]) (cat_R (cat_I cat_nil)) dX2_takeOut_11 rfl (by decide) rfl [1, 2, 0] rfl ?_
  exact F
theorem rX2_takeOut_12 {Γ : GE} {l : Launch} {h MC MS : Nat} {Q : Option Value → GH → Prop} {bc bs : Nat} {G : GH} (x : Nat) (p1 : Int32) (p2 : Int32) (F : (gC G x = kO 1 ∧ (((gI G x 8) ≤ p2 → (Q none G)) ∧ (¬ (gI G x 8) ≤ p2 → (∃ a2, (gR G x 7) = some a2 ∧ gC G a2 = kA 0 ∧ vp_in (p2 + 1) (gL G a2) ∧ gM G a2 = true ∧ vp_in p2 (gL G a2) ∧ GW Γ l mX2_takeOut h MC MS Q 12 [(0, va_rf (some x)), (1, .int p1), (2, .int (p2 + 1))] [] (sI G a2 p2.toNatClampNeg (gI G a2 (p2 + 1).toNatClampNeg)) bc bs))))) : GW Γ l mX2_takeOut h MC MS Q 12 [(0, va_rf (some x)), (1, .int p1), (2, .int p2)] [] G bc bs := by
  refine g_iload_n dX2_takeOut_12 rfl 2 rfl ?_
  refine g_aload_n dX2_takeOut_13 rfl 0 rfl ?_
  obtain ⟨c1, F⟩ := F
  refine h_get (v := .int (gI G x 8)) 1 8 (C := RX2) (T := TX2) (N := 30) rfl in_X2 (by decide) q1997 (Or.inl rfl) rfl c1 rfl dX2_takeOut_14 ?_
  refine g_icmp_ge 40 dX2_takeOut_17 (by decide) (fun h8 => ?_) (fun h8 => ?_)
  · have F := F.1 h8
    exact g_vret rfl dX2_takeOut_40 F
  · have F := F.2 h8
    refine g_aload_n dX2_takeOut_20 rfl 0 rfl ?_
    refine h_get (v := va_rf (gR G x 7)) 1 7 (C := RX2) (T := TX2) (N := 30) rfl in_X2 (by decide) q1996 (Or.inl rfl) rfl c1 rfl dX2_takeOut_21 ?_
    refine g_iload_n dX2_takeOut_24 rfl 2 rfl ?_
    refine g_aload_n dX2_takeOut_25 rfl 0 rfl ?_
    refine h_get (v := va_rf (gR G x 7)) 1 7 (C := RX2) (T := TX2) (N := 30) rfl in_X2 (by decide) q1996 (Or.inl rfl) rfl c1 rfl dX2_takeOut_26 ?_
    refine g_iload_n dX2_takeOut_29 rfl 2 rfl ?_
    refine g_iconst (v := 1) dX2_takeOut_30 (by decide) ?_
    refine g_iadd dX2_takeOut_31 ?_
    obtain ⟨a2, e3, F⟩ := F
    obtain ⟨c4, F⟩ := F
    obtain ⟨k5, F⟩ := F
    refine h_iald e3 c4 k5 dX2_takeOut_32 ?_
    obtain ⟨m6, F⟩ := F
    obtain ⟨k7, F⟩ := F
    refine h_iast e3 c4 m6 k7 dX2_takeOut_33 ?_
    refine s_iinc (v := (p2 + 1)) (lv' := [(0, va_rf (some x)), (1, .int p1), (2, .int (p2 + 1))]) (cat_R (cat_I (cat_I cat_nil))) dX2_takeOut_34 (k0 := 2) rfl rfl (by decide) rfl [1, 2, 0] rfl ?_
    refine g_goto 12 dX2_takeOut_37 (by decide) ?_
    exact F
theorem rX2_enter_0 {Γ : GE} {l : Launch} {h MC MS : Nat} {Q : Option Value → GH → Prop} {bc bs : Nat} {G : GH} (x : Nat) (p1 : Int32) (p2 : Int32) (p3 : Int32) (F : (gC G x = kO 1 ∧ cV Γ l h mX2_take [.ref x, .int p1] G bc bs fun Gr1 br1 sr1 => gC Gr1 x = kO 1 ∧ cI Γ l h mX2_put [.ref x, .int p2, .int p3] Gr1 br1 sr1 fun r4 Gr4 br4 sr4 => gC Gr4 x = kO 1 ∧ cV Γ l h mX2_give [.ref x, .int p1] Gr4 br4 sr4 fun Gr7 br7 sr7 => Q (some (.int r4)) Gr7)) : GW Γ l mX2_enter h MC MS Q 0 [(0, va_rf (some x)), (1, .int p1), (2, .int p2), (3, .int p3)] [] G bc bs := by
  refine g_aload_n dX2_enter_0 rfl 0 rfl ?_
  refine g_iload_n dX2_enter_1 rfl 1 rfl ?_
  obtain ⟨c2, F⟩ := F
  refine h_callVV (ci := 1) (C := RX2) (T := TX2) (N := 30) (As := [.int p1]) (rest := []) F 1 rfl rfl (lw_V q2168 q2170 qs64 q117 q2171) vm_X2_take (by decide) rfl c2 rfl (room_of sc_nil (Nat.le_of_ble_eq_true rfl)) dX2_enter_2 (fun Gr1 br1 sr1 F => ?_)
  refine g_aload_n dX2_enter_5 rfl 0 rfl ?_
  refine g_iload_n dX2_enter_6 rfl 2 rfl ?_
  refine g_iload_n dX2_enter_7 rfl 3 rfl ?_
  obtain ⟨c5, F⟩ := F
  refine h_callVI (ci := 1) (C := RX2) (T := TX2) (N := 30) (As := [.int p2, .int p3]) (rest := []) F 2 rfl rfl (lw_V q2180 q2182 qs67 q117 q2183) vm_X2_put (by decide) rfl c5 rfl (room_of sc_nil (Nat.le_of_ble_eq_true rfl)) dX2_enter_8 (fun r4 Gr4 br4 sr4 F => ?_)
  refine s_istore (lv' := [(0, va_rf (some x)), (1, .int p1), (2, .int p2), (3, .int p3), (4, .int r4)]) (cat_R (cat_I (cat_I (cat_I cat_nil)))) dX2_enter_11 (by decide) rfl [1, 2, 3, 4, 0] rfl ?_
  refine g_aload_n dX2_enter_13 rfl 0 rfl ?_
  refine g_iload_n dX2_enter_14 rfl 1 rfl ?_
  obtain ⟨c8, F⟩ := F
  refine h_callVV (ci := 1) (C := RX2) (T := TX2) (N := 30) (As := [.int p1]) (rest := []) F 1 rfl rfl (lw_V q2233 q2235 qs80 q117 q2236) vm_X2_give (by decide) rfl c8 rfl (room_of sc_nil (Nat.le_of_ble_eq_true rfl)) dX2_enter_15 (fun Gr7 br7 sr7 F => ?_)
  refine g_iload dX2_enter_18 4 rfl ?_
  exact g_iret rfl dX2_enter_20 F
theorem rX2_give_0 {Γ : GE} {l : Launch} {h MC MS : Nat} {Q : Option Value → GH → Prop} {bc bs : Nat} {G : GH} (x : Nat) (p1 : Int32) (F : (gC G x = kO 1 ∧ cI Γ l h mX2_crewAt [.int p1, .int 3] G bc bs fun r2 Gr2 br2 sr2 => gC Gr2 x = kO 1 ∧ ∃ a5, (gR G x 0) = some a5 ∧ gC Gr2 a5 = kA 0 ∧ gM Gr2 a5 = true ∧ vp_in r2 (gL Gr2 a5) ∧ cI Γ l h mX2_crewAt [.int p1, .int 4] (sI Gr2 a5 r2.toNatClampNeg (gI Gr2 x 8)) br2 sr2 fun r10 Gr10 br10 sr10 => gC Gr10 x = kO 1 ∧ ∃ a13, (gR (sI Gr2 a5 r2.toNatClampNeg (gI Gr2 x 8)) x 7) = some a13 ∧ gC Gr10 a13 = kA 0 ∧ gM Gr10 a13 = true ∧ ∃ a17, (gR (sI Gr2 a5 r2.toNatClampNeg (gI Gr2 x 8)) x 0) = some a17 ∧ gC Gr10 a17 = kA 0 ∧ gM Gr10 a17 = true ∧ ¬ r10 < 0 ∧ ¬ (gI Gr10 x 8) < 0 ∧ (0 : Int32).toNatClampNeg + (gI Gr10 x 8).toNatClampNeg ≤ gL Gr10 a13 ∧ r10.toNatClampNeg + (gI Gr10 x 8).toNatClampNeg ≤ gL Gr10 a17 ∧ 0 < h ∧ ∀ H26, H26 = (wI Gr10 a17 (va_cpy (gI Gr10 a13) (gI Gr10 a17) (0 : Int32).toNatClampNeg r10.toNatClampNeg (gI Gr10 x 8).toNatClampNeg)) → Q none H26)) : GW Γ l mX2_give h MC MS Q 0 [(0, va_rf (some x)), (1, .int p1)] [] G bc bs := by
  refine g_aload_n dX2_give_0 rfl 0 rfl ?_
  obtain ⟨c1, F⟩ := F
  refine h_get (v := va_rf (gR G x 0)) 1 0 (C := RX2) (T := TX2) (N := 30) rfl in_X2 (by decide) q1989 (Or.inl rfl) rfl c1 rfl dX2_give_1 ?_
  refine g_iload_n dX2_give_4 rfl 1 rfl ?_
  refine g_iconst (v := 3) dX2_give_5 (by decide) ?_
  refine h_callSI (As := [.int p1, .int 3]) (rest := [va_rf (gR G x 0)]) F 2 rfl (lw_S q2109 q2110 q117 q2111) vm_X2_crewAt.2 (by decide) rfl (room_of (sc_R sc_nil) (Nat.le_of_ble_eq_true rfl)) dX2_give_6 (fun r2 Gr2 br2 sr2 F => ?_)
  refine g_aload_n dX2_give_9 rfl 0 rfl ?_
  obtain ⟨c4, F⟩ := F
  refine h_get (v := .int (gI Gr2 x 8)) 1 8 (C := RX2) (T := TX2) (N := 30) rfl in_X2 (by decide) q1997 (Or.inl rfl) rfl c4 rfl dX2_give_10 ?_
  obtain ⟨a5, e6, F⟩ := F
  obtain ⟨c7, F⟩ := F
  obtain ⟨m8, F⟩ := F
  obtain ⟨k9, F⟩ := F
  refine h_iast e6 c7 m8 k9 dX2_give_13 ?_
  refine g_aload_n dX2_give_14 rfl 0 rfl ?_
  refine h_get (v := va_rf (gR (sI Gr2 a5 r2.toNatClampNeg (gI Gr2 x 8)) x 7)) 1 7 (C := RX2) (T := TX2) (N := 30) rfl in_X2 (by decide) q1996 (Or.inl rfl) rfl c4 rfl dX2_give_15 ?_
  refine g_iconst (v := 0) dX2_give_18 (by decide) ?_
  refine g_aload_n dX2_give_19 rfl 0 rfl ?_
  refine h_get (v := va_rf (gR (sI Gr2 a5 r2.toNatClampNeg (gI Gr2 x 8)) x 0)) 1 0 (C := RX2) (T := TX2) (N := 30) rfl in_X2 (by decide) q1989 (Or.inl rfl) rfl c4 rfl dX2_give_20 ?_
  refine g_iload_n dX2_give_23 rfl 1 rfl ?_
  refine g_iconst (v := 4) dX2_give_24 (by decide) ?_
  refine h_callSI (As := [.int p1, .int 4]) (rest := [va_rf (gR (sI Gr2 a5 r2.toNatClampNeg (gI Gr2 x 8)) x 0), .int 0, va_rf (gR (sI Gr2 a5 r2.toNatClampNeg (gI Gr2 x 8)) x 7)]) F 2 rfl (lw_S q2109 q2110 q117 q2111) vm_X2_crewAt.2 (by decide) rfl (room_of (sc_R (sc_I (sc_R sc_nil))) (Nat.le_of_ble_eq_true rfl)) dX2_give_25 (fun r10 Gr10 br10 sr10 F => ?_)
  refine g_aload_n dX2_give_28 rfl 0 rfl ?_
  obtain ⟨c12, F⟩ := F
  refine h_get (v := .int (gI Gr10 x 8)) 1 8 (C := RX2) (T := TX2) (N := 30) rfl in_X2 (by decide) q1997 (Or.inl rfl) rfl c12 rfl dX2_give_29 ?_
  obtain ⟨a13, e14, F⟩ := F
  obtain ⟨c15, F⟩ := F
  obtain ⟨m16, F⟩ := F
  obtain ⟨a17, e18, F⟩ := F
  obtain ⟨c19, F⟩ := F
  obtain ⟨m20, F⟩ := F
  obtain ⟨k21, F⟩ := F
  obtain ⟨k22, F⟩ := F
  obtain ⟨k23, F⟩ := F
  obtain ⟨k24, F⟩ := F
  obtain ⟨k25, F⟩ := F
  refine h_copyi 0 (by decide) q1988 q439 q438 q118 e14 c15 m16 e18 c19 m20 (by decide) k21 k22 k23 k24 (fun _ _ => rfl) k25 (room_of sc_nil (Nat.le_of_ble_eq_true rfl)) dX2_give_32 ?_
  obtain ⟨H26, h27⟩ : ∃ g : GH, g = (wI Gr10 a17 (va_cpy (gI Gr10 a13) (gI Gr10 a17) (0 : Int32).toNatClampNeg r10.toNatClampNeg (gI Gr10 x 8).toNatClampNeg)) := ⟨_, rfl⟩
  rw [← h27]
  have F := F H26 h27
  exact g_vret rfl dX2_give_35 F
theorem rX2_ride_0 {Γ : GE} {l : Launch} {h MC MS : Nat} {Q : Option Value → GH → Prop} {bc bs : Nat} {G : GH} (x : Nat) (p1 : Int32) (p2 : Int32) (F : (gC G x = kO 1 ∧ cI Γ l h mX2_assign [.ref x, .int p1, .int p2, .int 0] G bc bs fun r1 Gr1 br1 sr1 => Q (some (.int r1)) Gr1)) : GW Γ l mX2_ride h MC MS Q 0 [(0, va_rf (some x)), (1, .int p1), (2, .int p2)] [] G bc bs := by
  refine g_aload_n dX2_ride_0 rfl 0 rfl ?_
  refine g_iload_n dX2_ride_1 rfl 1 rfl ?_
  refine g_iload_n dX2_ride_2 rfl 2 rfl ?_
  refine g_iconst (v := 0) dX2_ride_3 (by decide) ?_
  obtain ⟨c2, F⟩ := F
  refine h_callVI (ci := 1) (C := RX2) (T := TX2) (N := 30) (As := [.int p1, .int p2, .int 0]) (rest := []) F 3 rfl rfl (lw_V q2156 q2158 qs61 q117 q2159) vm_X2_assign (by decide) rfl c2 rfl (room_of sc_nil (Nat.le_of_ble_eq_true rfl)) dX2_ride_4 (fun r1 Gr1 br1 sr1 F => ?_)
  exact g_iret rfl dX2_ride_7 F
theorem rX2_drop_0 {Γ : GE} {l : Launch} {h MC MS : Nat} {Q : Option Value → GH → Prop} {bc bs : Nat} {G : GH} (x : Nat) (p1 : Int32) (p2 : Int32) (F : (gC G x = kO 1 ∧ cI Γ l h mX2_isCrew [.ref x, .int p1] G bc bs fun r1 Gr1 br1 sr1 => ((r1 = 0 → (Q (some (.int (-1))) Gr1)) ∧ (¬ r1 = 0 → (gC Gr1 x = kO 1 ∧ cI Γ l h mX2_isLeg [.ref x, .int p2] Gr1 br1 sr1 fun r4 Gr4 br4 sr4 => ((¬ r4 = 0 → (gC Gr4 x = kO 1 ∧ cI Γ l h mX2_placeIn [.ref x, .int p1, .int p2] Gr4 br4 sr4 fun r7 Gr7 br7 sr7 => (((0 : Int32) ≤ r7 → (gC Gr7 x = kO 1 ∧ cV Γ l h mX2_change [.ref x] Gr7 br7 sr7 fun Gr10 br10 sr10 => gC Gr10 x = kO 1 ∧ cV Γ l h mX2_take [.ref x, .int p1] Gr10 br10 sr10 fun Gr13 br13 sr13 => gC Gr13 x = kO 1 ∧ cV Γ l h mX2_takeOut [.ref x, .int r7] Gr13 br13 sr13 fun Gr16 br16 sr16 => gC Gr16 x = kO 1 ∧ cV Γ l h mX2_give [.ref x, .int p1] Gr16 br16 sr16 fun Gr19 br19 sr19 => gC Gr19 x = kO 1 ∧ Q (some (.int (gI Gr19 x 8))) Gr19)) ∧ (¬ (0 : Int32) ≤ r7 → (Q (some (.int (-2))) Gr7))))) ∧ (r4 = 0 → (Q (some (.int (-1))) Gr4)))))))) : GW Γ l mX2_drop h MC MS Q 0 [(0, va_rf (some x)), (1, .int p1), (2, .int p2)] [] G bc bs := by
  refine g_aload_n dX2_drop_0 rfl 0 rfl ?_
  refine g_iload_n dX2_drop_1 rfl 1 rfl ?_
  obtain ⟨c2, F⟩ := F
  refine h_callVI (ci := 1) (C := RX2) (T := TX2) (N := 30) (As := [.int p1]) (rest := []) F 1 rfl rfl (lw_V q2160 q2162 qs62 q117 q2163) vm_X2_isCrew (by decide) rfl c2 rfl (room_of sc_nil (Nat.le_of_ble_eq_true rfl)) dX2_drop_2 (fun r1 Gr1 br1 sr1 F => ?_)
  refine g_if_eq 16 dX2_drop_5 (by decide) (fun h25 => ?_) (fun h25 => ?_)
  · have F := F.1 h25
    refine g_iconst (v := (-1)) dX2_drop_16 (by decide) ?_
    exact g_iret rfl dX2_drop_17 F
  · have F := F.2 h25
    refine g_aload_n dX2_drop_8 rfl 0 rfl ?_
    refine g_iload_n dX2_drop_9 rfl 2 rfl ?_
    obtain ⟨c5, F⟩ := F
    refine h_callVI (ci := 1) (C := RX2) (T := TX2) (N := 30) (As := [.int p2]) (rest := []) F 1 rfl rfl (lw_V q2124 q2126 qs57 q117 q2127) vm_X2_isLeg (by decide) rfl c5 rfl (room_of sc_nil (Nat.le_of_ble_eq_true rfl)) dX2_drop_10 (fun r4 Gr4 br4 sr4 F => ?_)
    refine g_if_ne 18 dX2_drop_13 (by decide) (fun h24 => ?_) (fun h24 => ?_)
    · have F := F.1 h24
      refine g_aload_n dX2_drop_18 rfl 0 rfl ?_
      refine g_iload_n dX2_drop_19 rfl 1 rfl ?_
      refine g_iload_n dX2_drop_20 rfl 2 rfl ?_
      obtain ⟨c8, F⟩ := F
      refine h_callVI (ci := 1) (C := RX2) (T := TX2) (N := 30) (As := [.int p1, .int p2]) (rest := []) F 2 rfl rfl (lw_V q2132 q2134 qs59 q117 q2135) vm_X2_placeIn (by decide) rfl c8 rfl (room_of sc_nil (Nat.le_of_ble_eq_true rfl)) dX2_drop_21 (fun r7 Gr7 br7 sr7 F => ?_)
      refine s_istore_n (lv' := [(0, va_rf (some x)), (1, .int p1), (2, .int p2), (3, .int r7)]) (cat_R (cat_I (cat_I cat_nil))) dX2_drop_24 rfl (by decide) rfl [1, 2, 3, 0] rfl ?_
      refine g_iload_n dX2_drop_25 rfl 3 rfl ?_
      refine g_if_ge 32 dX2_drop_26 (by decide) (fun h23 => ?_) (fun h23 => ?_)
      · have F := F.1 h23
        refine g_aload_n dX2_drop_32 rfl 0 rfl ?_
        obtain ⟨c11, F⟩ := F
        refine h_callVV (ci := 1) (C := RX2) (T := TX2) (N := 30) (As := []) (rest := []) F 0 rfl rfl (lw_V q2097 q2099 qs55 q117 q2100) vm_X2_change (by decide) rfl c11 rfl (room_of sc_nil (Nat.le_of_ble_eq_true rfl)) dX2_drop_33 (fun Gr10 br10 sr10 F => ?_)
        refine g_aload_n dX2_drop_36 rfl 0 rfl ?_
        refine g_iload_n dX2_drop_37 rfl 1 rfl ?_
        obtain ⟨c14, F⟩ := F
        refine h_callVV (ci := 1) (C := RX2) (T := TX2) (N := 30) (As := [.int p1]) (rest := []) F 1 rfl rfl (lw_V q2168 q2170 qs64 q117 q2171) vm_X2_take (by decide) rfl c14 rfl (room_of sc_nil (Nat.le_of_ble_eq_true rfl)) dX2_drop_38 (fun Gr13 br13 sr13 F => ?_)
        refine g_aload_n dX2_drop_41 rfl 0 rfl ?_
        refine g_iload_n dX2_drop_42 rfl 3 rfl ?_
        obtain ⟨c17, F⟩ := F
        refine h_callVV (ci := 1) (C := RX2) (T := TX2) (N := 30) (As := [.int r7]) (rest := []) F 1 rfl rfl (lw_V q2225 q2227 qs78 q117 q2228) vm_X2_takeOut (by decide) rfl c17 rfl (room_of sc_nil (Nat.le_of_ble_eq_true rfl)) dX2_drop_43 (fun Gr16 br16 sr16 F => ?_)
        refine g_aload_n dX2_drop_46 rfl 0 rfl ?_
        refine g_iload_n dX2_drop_47 rfl 1 rfl ?_
        obtain ⟨c20, F⟩ := F
        refine h_callVV (ci := 1) (C := RX2) (T := TX2) (N := 30) (As := [.int p1]) (rest := []) F 1 rfl rfl (lw_V q2233 q2235 qs80 q117 q2236) vm_X2_give (by decide) rfl c20 rfl (room_of sc_nil (Nat.le_of_ble_eq_true rfl)) dX2_drop_48 (fun Gr19 br19 sr19 F => ?_)
        refine g_aload_n dX2_drop_51 rfl 0 rfl ?_
        obtain ⟨c22, F⟩ := F
        refine h_get (v := .int (gI Gr19 x 8)) 1 8 (C := RX2) (T := TX2) (N := 30) rfl in_X2 (by decide) q1997 (Or.inl rfl) rfl c22 rfl dX2_drop_52 ?_
        exact g_iret rfl dX2_drop_55 F
      · have F := F.2 h23
        refine g_bipush (v := (-2)) dX2_drop_29 (by decide) ?_
        exact g_iret rfl dX2_drop_31 F
    · have F := F.2 h24
      refine g_iconst (v := (-1)) dX2_drop_16 (by decide) ?_
      exact g_iret rfl dX2_drop_17 F
theorem rX2_reason_0 {Γ : GE} {l : Launch} {h MC MS : Nat} {Q : Option Value → GH → Prop} {bc bs : Nat} {G : GH} (x : Nat) (p1 : Int32) (p2 : Int32) (p3 : Int32) (F : (gC G x = kO 1 ∧ cI Γ l h mX2_isCrew [.ref x, .int p1] G bc bs fun r1 Gr1 br1 sr1 => ((r1 = 0 → (Q (some (.int (-1))) Gr1)) ∧ (¬ r1 = 0 → (gC Gr1 x = kO 1 ∧ cI Γ l h mX2_isLeg [.ref x, .int p2] Gr1 br1 sr1 fun r4 Gr4 br4 sr4 => ((r4 = 0 → (Q (some (.int (-1))) Gr4)) ∧ (¬ r4 = 0 → (gC Gr4 x = kO 1 ∧ cI Γ l h mX2_hinders [.ref x, .int p1, .int p2, .int p3] Gr4 br4 sr4 fun r7 Gr7 br7 sr7 => Q (some (.int (r7 / 100))) Gr7)))))))) : GW Γ l mX2_reason h MC MS Q 0 [(0, va_rf (some x)), (1, .int p1), (2, .int p2), (3, .int p3)] [] G bc bs := by
  refine g_aload_n dX2_reason_0 rfl 0 rfl ?_
  refine g_iload_n dX2_reason_1 rfl 1 rfl ?_
  obtain ⟨c2, F⟩ := F
  refine h_callVI (ci := 1) (C := RX2) (T := TX2) (N := 30) (As := [.int p1]) (rest := []) F 1 rfl rfl (lw_V q2160 q2162 qs62 q117 q2163) vm_X2_isCrew (by decide) rfl c2 rfl (room_of sc_nil (Nat.le_of_ble_eq_true rfl)) dX2_reason_2 (fun r1 Gr1 br1 sr1 F => ?_)
  refine g_if_eq 29 dX2_reason_5 (by decide) (fun h11 => ?_) (fun h11 => ?_)
  · have F := F.1 h11
    refine g_iconst (v := (-1)) dX2_reason_29 (by decide) ?_
    exact g_iret rfl dX2_reason_30 F
  · have F := F.2 h11
    refine g_aload_n dX2_reason_8 rfl 0 rfl ?_
    refine g_iload_n dX2_reason_9 rfl 2 rfl ?_
    obtain ⟨c5, F⟩ := F
    refine h_callVI (ci := 1) (C := RX2) (T := TX2) (N := 30) (As := [.int p2]) (rest := []) F 1 rfl rfl (lw_V q2124 q2126 qs57 q117 q2127) vm_X2_isLeg (by decide) rfl c5 rfl (room_of sc_nil (Nat.le_of_ble_eq_true rfl)) dX2_reason_10 (fun r4 Gr4 br4 sr4 F => ?_)
    refine g_if_eq 29 dX2_reason_13 (by decide) (fun h10 => ?_) (fun h10 => ?_)
    · have F := F.1 h10
      refine g_iconst (v := (-1)) dX2_reason_29 (by decide) ?_
      exact g_iret rfl dX2_reason_30 F
    · have F := F.2 h10
      refine g_aload_n dX2_reason_16 rfl 0 rfl ?_
      refine g_iload_n dX2_reason_17 rfl 1 rfl ?_
      refine g_iload_n dX2_reason_18 rfl 2 rfl ?_
      refine g_iload_n dX2_reason_19 rfl 3 rfl ?_
      obtain ⟨c8, F⟩ := F
      refine h_callVI (ci := 1) (C := RX2) (T := TX2) (N := 30) (As := [.int p1, .int p2, .int p3]) (rest := []) F 3 rfl rfl (lw_V q2164 q2166 qs63 q117 q2167) vm_X2_hinders (by decide) rfl c8 rfl (room_of sc_nil (Nat.le_of_ble_eq_true rfl)) dX2_reason_20 (fun r7 Gr7 br7 sr7 F => ?_)
      refine g_bipush (v := 100) dX2_reason_23 (by decide) ?_
      refine g_idiv dX2_reason_25 (by decide) ?_
      refine g_goto 30 dX2_reason_26 (by decide) ?_
      exact g_iret rfl dX2_reason_30 F
theorem rX2_place_0 {Γ : GE} {l : Launch} {h MC MS : Nat} {Q : Option Value → GH → Prop} {bc bs : Nat} {G : GH} (x : Nat) (p1 : Int32) (p2 : Int32) (p3 : Int32) (F : (gC G x = kO 1 ∧ cI Γ l h mX2_isCrew [.ref x, .int p1] G bc bs fun r1 Gr1 br1 sr1 => ((r1 = 0 → (Q (some (.int (-1))) Gr1)) ∧ (¬ r1 = 0 → (gC Gr1 x = kO 1 ∧ cI Γ l h mX2_isLeg [.ref x, .int p2] Gr1 br1 sr1 fun r4 Gr4 br4 sr4 => ((¬ r4 = 0 → (gC Gr4 x = kO 1 ∧ cI Γ l h mX2_hinders [.ref x, .int p1, .int p2, .int p3] Gr4 br4 sr4 fun r7 Gr7 br7 sr7 => cI Γ l h mX2_in [.int (r7 / 100), .int 1, .int 7] Gr7 br7 sr7 fun r10 Gr10 br10 sr10 => ((r10 = 0 → (Q (some (.int (-2))) Gr10)) ∧ (¬ r10 = 0 → (Q (some (.int (r7 - r7 / 100 * 100))) Gr10))))) ∧ (r4 = 0 → (Q (some (.int (-1))) Gr4)))))))) : GW Γ l mX2_place h MC MS Q 0 [(0, va_rf (some x)), (1, .int p1), (2, .int p2), (3, .int p3)] [] G bc bs := by
  refine g_aload_n dX2_place_0 rfl 0 rfl ?_
  refine g_iload_n dX2_place_1 rfl 1 rfl ?_
  obtain ⟨c2, F⟩ := F
  refine h_callVI (ci := 1) (C := RX2) (T := TX2) (N := 30) (As := [.int p1]) (rest := []) F 1 rfl rfl (lw_V q2160 q2162 qs62 q117 q2163) vm_X2_isCrew (by decide) rfl c2 rfl (room_of sc_nil (Nat.le_of_ble_eq_true rfl)) dX2_place_2 (fun r1 Gr1 br1 sr1 F => ?_)
  refine g_if_eq 16 dX2_place_5 (by decide) (fun h14 => ?_) (fun h14 => ?_)
  · have F := F.1 h14
    refine g_iconst (v := (-1)) dX2_place_16 (by decide) ?_
    exact g_iret rfl dX2_place_17 F
  · have F := F.2 h14
    refine g_aload_n dX2_place_8 rfl 0 rfl ?_
    refine g_iload_n dX2_place_9 rfl 2 rfl ?_
    obtain ⟨c5, F⟩ := F
    refine h_callVI (ci := 1) (C := RX2) (T := TX2) (N := 30) (As := [.int p2]) (rest := []) F 1 rfl rfl (lw_V q2124 q2126 qs57 q117 q2127) vm_X2_isLeg (by decide) rfl c5 rfl (room_of sc_nil (Nat.le_of_ble_eq_true rfl)) dX2_place_10 (fun r4 Gr4 br4 sr4 F => ?_)
    refine g_if_ne 18 dX2_place_13 (by decide) (fun h13 => ?_) (fun h13 => ?_)
    · have F := F.1 h13
      refine g_aload_n dX2_place_18 rfl 0 rfl ?_
      refine g_iload_n dX2_place_19 rfl 1 rfl ?_
      refine g_iload_n dX2_place_20 rfl 2 rfl ?_
      refine g_iload_n dX2_place_21 rfl 3 rfl ?_
      obtain ⟨c8, F⟩ := F
      refine h_callVI (ci := 1) (C := RX2) (T := TX2) (N := 30) (As := [.int p1, .int p2, .int p3]) (rest := []) F 3 rfl rfl (lw_V q2164 q2166 qs63 q117 q2167) vm_X2_hinders (by decide) rfl c8 rfl (room_of sc_nil (Nat.le_of_ble_eq_true rfl)) dX2_place_22 (fun r7 Gr7 br7 sr7 F => ?_)
      refine s_istore (lv' := [(0, va_rf (some x)), (1, .int p1), (2, .int p2), (3, .int p3), (4, .int r7)]) (cat_R (cat_I (cat_I (cat_I cat_nil)))) dX2_place_25 (by decide) rfl [1, 2, 3, 4, 0] rfl ?_
      refine g_iload dX2_place_27 4 rfl ?_
      refine g_bipush (v := 100) dX2_place_29 (by decide) ?_
      refine g_idiv dX2_place_31 (by decide) ?_
      refine g_iconst (v := 1) dX2_place_32 (by decide) ?_
      refine g_bipush (v := 7) dX2_place_33 (by decide) ?_
      refine h_callSI (As := [.int (r7 / 100), .int 1, .int 7]) (rest := []) F 3 rfl (lw_S q2085 q2086 q117 q2087) vm_X2_in.2 (by decide) rfl (room_of sc_nil (Nat.le_of_ble_eq_true rfl)) dX2_place_35 (fun r10 Gr10 br10 sr10 F => ?_)
      refine g_if_eq 49 dX2_place_38 (by decide) (fun h12 => ?_) (fun h12 => ?_)
      · have F := F.1 h12
        refine g_bipush (v := (-2)) dX2_place_49 (by decide) ?_
        exact g_iret rfl dX2_place_51 F
      · have F := F.2 h12
        refine g_iload dX2_place_41 4 rfl ?_
        refine g_bipush (v := 100) dX2_place_43 (by decide) ?_
        refine g_irem dX2_place_45 (by decide) ?_
        refine g_goto 51 dX2_place_46 (by decide) ?_
        exact g_iret rfl dX2_place_51 F
    · have F := F.2 h13
      refine g_iconst (v := (-1)) dX2_place_16 (by decide) ?_
      exact g_iret rfl dX2_place_17 F
theorem rX2_itemCount_0 {Γ : GE} {l : Launch} {h MC MS : Nat} {Q : Option Value → GH → Prop} {bc bs : Nat} {G : GH} (x : Nat) (p1 : Int32) (F : (gC G x = kO 1 ∧ cI Γ l h mX2_isCrew [.ref x, .int p1] G bc bs fun r1 Gr1 br1 sr1 => ((r1 = 0 → (Q (some (.int (-1))) Gr1)) ∧ (¬ r1 = 0 → (gC Gr1 x = kO 1 ∧ cI Γ l h mX2_ofCrew [.ref x, .int p1, .int 3] Gr1 br1 sr1 fun r4 Gr4 br4 sr4 => Q (some (.int r4)) Gr4))))) : GW Γ l mX2_itemCount h MC MS Q 0 [(0, va_rf (some x)), (1, .int p1)] [] G bc bs := by
  refine g_aload_n dX2_itemCount_0 rfl 0 rfl ?_
  refine g_iload_n dX2_itemCount_1 rfl 1 rfl ?_
  obtain ⟨c2, F⟩ := F
  refine h_callVI (ci := 1) (C := RX2) (T := TX2) (N := 30) (As := [.int p1]) (rest := []) F 1 rfl rfl (lw_V q2160 q2162 qs62 q117 q2163) vm_X2_isCrew (by decide) rfl c2 rfl (room_of sc_nil (Nat.le_of_ble_eq_true rfl)) dX2_itemCount_2 (fun r1 Gr1 br1 sr1 F => ?_)
  refine g_if_eq 17 dX2_itemCount_5 (by decide) (fun h7 => ?_) (fun h7 => ?_)
  · have F := F.1 h7
    refine g_iconst (v := (-1)) dX2_itemCount_17 (by decide) ?_
    exact g_iret rfl dX2_itemCount_18 F
  · have F := F.2 h7
    refine g_aload_n dX2_itemCount_8 rfl 0 rfl ?_
    refine g_iload_n dX2_itemCount_9 rfl 1 rfl ?_
    refine g_iconst (v := 3) dX2_itemCount_10 (by decide) ?_
    obtain ⟨c5, F⟩ := F
    refine h_callVI (ci := 1) (C := RX2) (T := TX2) (N := 30) (As := [.int p1, .int 3]) (rest := []) F 2 rfl rfl (lw_V q2136 q2138 qs60 q117 q2139) vm_X2_ofCrew (by decide) rfl c5 rfl (room_of sc_nil (Nat.le_of_ble_eq_true rfl)) dX2_itemCount_11 (fun r4 Gr4 br4 sr4 F => ?_)
    refine g_goto 18 dX2_itemCount_14 (by decide) ?_
    exact g_iret rfl dX2_itemCount_18 F
theorem rX2_item_0 {Γ : GE} {l : Launch} {h MC MS : Nat} {Q : Option Value → GH → Prop} {bc bs : Nat} {G : GH} (x : Nat) (p1 : Int32) (p2 : Int32) (p3 : Int32) (F : (gC G x = kO 1 ∧ cI Γ l h mX2_isCrew [.ref x, .int p1] G bc bs fun r1 Gr1 br1 sr1 => ((r1 = 0 → (Q (some (.int (-1))) Gr1)) ∧ (¬ r1 = 0 → (cI Γ l h mX2_in [.int p3, .int 0, .int 2] Gr1 br1 sr1 fun r4 Gr4 br4 sr4 => ((¬ r4 = 0 → (gC Gr4 x = kO 1 ∧ cV Γ l h mX2_take [.ref x, .int p1] Gr4 br4 sr4 fun Gr6 br6 sr6 => gC Gr6 x = kO 1 ∧ cI Γ l h mX2_in [.int p2, .int 0, .int ((gI Gr6 x 8) - 1)] Gr6 br6 sr6 fun r10 Gr10 br10 sr10 => ((¬ r10 = 0 → ((¬ p3 = 0 → ((¬ p3 = 1 → (gC Gr10 x = kO 1 ∧ cI Γ l h mX2_dutyOf [.ref x, .int p2] Gr10 br10 sr10 fun r12 Gr12 br12 sr12 => Q (some (.int r12)) Gr12)) ∧ (p3 = 1 → (gC Gr10 x = kO 1 ∧ ∃ a16, (gR Gr10 x 7) = some a16 ∧ gC Gr10 a16 = kA 0 ∧ vp_in p2 (gL Gr10 a16) ∧ Q (some (.int ((gI Gr10 a16 p2.toNatClampNeg) - (gI Gr10 a16 p2.toNatClampNeg) / 2 * 2))) Gr10)))) ∧ (p3 = 0 → (gC Gr10 x = kO 1 ∧ cI Γ l h mX2_legAt [.ref x, .int p2] Gr10 br10 sr10 fun r21 Gr21 br21 sr21 => Q (some (.int r21)) Gr21)))) ∧ (r10 = 0 → (Q (some (.int (-2))) Gr10))))) ∧ (r4 = 0 → (Q (some (.int (-1))) Gr4)))))))) : GW Γ l mX2_item h MC MS Q 0 [(0, va_rf (some x)), (1, .int p1), (2, .int p2), (3, .int p3)] [] G bc bs := by
  refine g_aload_n dX2_item_0 rfl 0 rfl ?_
  refine g_iload_n dX2_item_1 rfl 1 rfl ?_
  obtain ⟨c2, F⟩ := F
  refine h_callVI (ci := 1) (C := RX2) (T := TX2) (N := 30) (As := [.int p1]) (rest := []) F 1 rfl rfl (lw_V q2160 q2162 qs62 q117 q2163) vm_X2_isCrew (by decide) rfl c2 rfl (room_of sc_nil (Nat.le_of_ble_eq_true rfl)) dX2_item_2 (fun r1 Gr1 br1 sr1 F => ?_)
  refine g_if_eq 17 dX2_item_5 (by decide) (fun h27 => ?_) (fun h27 => ?_)
  · have F := F.1 h27
    refine g_iconst (v := (-1)) dX2_item_17 (by decide) ?_
    exact g_iret rfl dX2_item_18 F
  · have F := F.2 h27
    refine g_iload_n dX2_item_8 rfl 3 rfl ?_
    refine g_iconst (v := 0) dX2_item_9 (by decide) ?_
    refine g_iconst (v := 2) dX2_item_10 (by decide) ?_
    refine h_callSI (As := [.int p3, .int 0, .int 2]) (rest := []) F 3 rfl (lw_S q2085 q2086 q117 q2087) vm_X2_in.2 (by decide) rfl (room_of sc_nil (Nat.le_of_ble_eq_true rfl)) dX2_item_11 (fun r4 Gr4 br4 sr4 F => ?_)
    refine g_if_ne 19 dX2_item_14 (by decide) (fun h26 => ?_) (fun h26 => ?_)
    · have F := F.1 h26
      refine g_aload_n dX2_item_19 rfl 0 rfl ?_
      refine g_iload_n dX2_item_20 rfl 1 rfl ?_
      obtain ⟨c7, F⟩ := F
      refine h_callVV (ci := 1) (C := RX2) (T := TX2) (N := 30) (As := [.int p1]) (rest := []) F 1 rfl rfl (lw_V q2168 q2170 qs64 q117 q2171) vm_X2_take (by decide) rfl c7 rfl (room_of sc_nil (Nat.le_of_ble_eq_true rfl)) dX2_item_21 (fun Gr6 br6 sr6 F => ?_)
      refine g_iload_n dX2_item_24 rfl 2 rfl ?_
      refine g_iconst (v := 0) dX2_item_25 (by decide) ?_
      refine g_aload_n dX2_item_26 rfl 0 rfl ?_
      obtain ⟨c9, F⟩ := F
      refine h_get (v := .int (gI Gr6 x 8)) 1 8 (C := RX2) (T := TX2) (N := 30) rfl in_X2 (by decide) q1997 (Or.inl rfl) rfl c9 rfl dX2_item_27 ?_
      refine g_iconst (v := 1) dX2_item_30 (by decide) ?_
      refine g_isub dX2_item_31 ?_
      refine h_callSI (As := [.int p2, .int 0, .int ((gI Gr6 x 8) - 1)]) (rest := []) F 3 rfl (lw_S q2085 q2086 q117 q2087) vm_X2_in.2 (by decide) rfl (room_of sc_nil (Nat.le_of_ble_eq_true rfl)) dX2_item_32 (fun r10 Gr10 br10 sr10 F => ?_)
      refine g_if_ne 41 dX2_item_35 (by decide) (fun h25 => ?_) (fun h25 => ?_)
      · have F := F.1 h25
        refine g_iload_n dX2_item_41 rfl 3 rfl ?_
        refine g_if_ne 53 dX2_item_42 (by decide) (fun h24 => ?_) (fun h24 => ?_)
        · have F := F.1 h24
          refine g_iload_n dX2_item_53 rfl 3 rfl ?_
          refine g_iconst (v := 1) dX2_item_54 (by decide) ?_
          refine g_icmp_ne 69 dX2_item_55 (by decide) (fun h20 => ?_) (fun h20 => ?_)
          · have F := F.1 h20
            refine g_aload_n dX2_item_69 rfl 0 rfl ?_
            refine g_iload_n dX2_item_70 rfl 2 rfl ?_
            obtain ⟨c13, F⟩ := F
            refine h_callVI (ci := 1) (C := RX2) (T := TX2) (N := 30) (As := [.int p2]) (rest := []) F 1 rfl rfl (lw_V q2261 q2263 qs81 q117 q2264) vm_X2_dutyOf (by decide) rfl c13 rfl (room_of sc_nil (Nat.le_of_ble_eq_true rfl)) dX2_item_71 (fun r12 Gr12 br12 sr12 F => ?_)
            exact g_iret rfl dX2_item_74 F
          · have F := F.2 h20
            refine g_aload_n dX2_item_58 rfl 0 rfl ?_
            obtain ⟨c15, F⟩ := F
            refine h_get (v := va_rf (gR Gr10 x 7)) 1 7 (C := RX2) (T := TX2) (N := 30) rfl in_X2 (by decide) q1996 (Or.inl rfl) rfl c15 rfl dX2_item_59 ?_
            refine g_iload_n dX2_item_62 rfl 2 rfl ?_
            obtain ⟨a16, e17, F⟩ := F
            obtain ⟨c18, F⟩ := F
            obtain ⟨k19, F⟩ := F
            refine h_iald e17 c18 k19 dX2_item_63 ?_
            refine g_iconst (v := 2) dX2_item_64 (by decide) ?_
            refine g_irem dX2_item_65 (by decide) ?_
            refine g_goto 74 dX2_item_66 (by decide) ?_
            exact g_iret rfl dX2_item_74 F
        · have F := F.2 h24
          refine g_aload_n dX2_item_45 rfl 0 rfl ?_
          refine g_iload_n dX2_item_46 rfl 2 rfl ?_
          obtain ⟨c22, F⟩ := F
          refine h_callVI (ci := 1) (C := RX2) (T := TX2) (N := 30) (As := [.int p2]) (rest := []) F 1 rfl rfl (lw_V q2176 q2178 qs66 q117 q2179) vm_X2_legAt (by decide) rfl c22 rfl (room_of sc_nil (Nat.le_of_ble_eq_true rfl)) dX2_item_47 (fun r21 Gr21 br21 sr21 F => ?_)
          refine g_goto 74 dX2_item_50 (by decide) ?_
          exact g_iret rfl dX2_item_74 F
      · have F := F.2 h25
        refine g_bipush (v := (-2)) dX2_item_38 (by decide) ?_
        exact g_iret rfl dX2_item_40 F
    · have F := F.2 h26
      refine g_iconst (v := (-1)) dX2_item_17 (by decide) ?_
      exact g_iret rfl dX2_item_18 F
theorem rX2_dutyOf_0 {Γ : GE} {l : Launch} {h MC MS : Nat} {Q : Option Value → GH → Prop} {bc bs : Nat} {G : GH} (x : Nat) (p1 : Int32) (F : (GW Γ l mX2_dutyOf h MC MS Q 4 [(0, va_rf (some x)), (1, .int p1), (2, .int (-1)), (3, .int 0)] [] G bc bs)) : GW Γ l mX2_dutyOf h MC MS Q 0 [(0, va_rf (some x)), (1, .int p1)] [] G bc bs := by
  refine g_iconst (v := (-1)) dX2_dutyOf_0 (by decide) ?_
  refine s_istore_n (lv' := [(0, va_rf (some x)), (1, .int p1), (2, .int (-1))]) (cat_R (cat_I cat_nil)) dX2_dutyOf_1 rfl (by decide) rfl [1, 2, 0] rfl ?_
  refine g_iconst (v := 0) dX2_dutyOf_2 (by decide) ?_
  refine s_istore_n (lv' := [(0, va_rf (some x)), (1, .int p1), (2, .int (-1)), (3, .int 0)]) (cat_R (cat_I (cat_I cat_nil))) dX2_dutyOf_3 rfl (by decide) rfl [1, 2, 3, 0] rfl ?_
  exact F
theorem rX2_dutyOf_4 {Γ : GE} {l : Launch} {h MC MS : Nat} {Q : Option Value → GH → Prop} {bc bs : Nat} {G : GH} (x : Nat) (p1 : Int32) (p2 : Int32) (p3 : Int32) (F : ((p1 < p3 → (Q (some (.int p2)) G)) ∧ (¬ p1 < p3 → (gC G x = kO 1 ∧ cI Γ l h mX2_beginsDuty [.ref x, .int p3] G bc bs fun r1 Gr1 br1 sr1 => ((r1 = 0 → (GW Γ l mX2_dutyOf h MC MS Q 4 [(0, va_rf (some x)), (1, .int p1), (2, .int (p2 + 0)), (3, .int (p3 + 1))] [] Gr1 br1 sr1)) ∧ (¬ r1 = 0 → (GW Γ l mX2_dutyOf h MC MS Q 4 [(0, va_rf (some x)), (1, .int p1), (2, .int (p2 + 1)), (3, .int (p3 + 1))] [] Gr1 br1 sr1))))))) : GW Γ l mX2_dutyOf h MC MS Q 4 [(0, va_rf (some x)), (1, .int p1), (2, .int p2), (3, .int p3)] [] G bc bs := by
  refine g_iload_n dX2_dutyOf_4 rfl 3 rfl ?_
  refine g_iload_n dX2_dutyOf_5 rfl 1 rfl ?_
  refine g_icmp_gt 31 dX2_dutyOf_6 (by decide) (fun h5 => ?_) (fun h5 => ?_)
  · have F := F.1 h5
    refine g_iload_n dX2_dutyOf_31 rfl 2 rfl ?_
    exact g_iret rfl dX2_dutyOf_32 F
  · have F := F.2 h5
    refine g_iload_n dX2_dutyOf_9 rfl 2 rfl ?_
    refine g_aload_n dX2_dutyOf_10 rfl 0 rfl ?_
    refine g_iload_n dX2_dutyOf_11 rfl 3 rfl ?_
    obtain ⟨c2, F⟩ := F
    refine h_callVI (ci := 1) (C := RX2) (T := TX2) (N := 30) (As := [.int p3]) (rest := [.int p2]) F 1 rfl rfl (lw_V q2196 q2198 qs71 q117 q2199) vm_X2_beginsDuty (by decide) rfl c2 rfl (room_of (sc_I sc_nil) (Nat.le_of_ble_eq_true rfl)) dX2_dutyOf_12 (fun r1 Gr1 br1 sr1 F => ?_)
    refine g_if_eq 22 dX2_dutyOf_15 (by decide) (fun h4 => ?_) (fun h4 => ?_)
    · have F := F.1 h4
      refine g_iconst (v := 0) dX2_dutyOf_22 (by decide) ?_
      refine g_iadd dX2_dutyOf_23 ?_
      refine s_istore_n (lv' := [(0, va_rf (some x)), (1, .int p1), (2, .int (p2 + 0)), (3, .int p3)]) (cat_R (cat_I (cat_I (cat_I cat_nil)))) dX2_dutyOf_24 rfl (by decide) rfl [1, 2, 0, 3] rfl ?_
      refine s_iinc (v := (p3 + 1)) (lv' := [(0, va_rf (some x)), (1, .int p1), (2, .int (p2 + 0)), (3, .int (p3 + 1))]) (cat_R (cat_I (cat_I (cat_I cat_nil)))) dX2_dutyOf_25 (k0 := 3) rfl rfl (by decide) rfl [1, 2, 3, 0] rfl ?_
      refine g_goto 4 dX2_dutyOf_28 (by decide) ?_
      exact F
    · have F := F.2 h4
      refine g_iconst (v := 1) dX2_dutyOf_18 (by decide) ?_
      refine g_goto 23 dX2_dutyOf_19 (by decide) ?_
      refine g_iadd dX2_dutyOf_23 ?_
      refine s_istore_n (lv' := [(0, va_rf (some x)), (1, .int p1), (2, .int (p2 + 1)), (3, .int p3)]) (cat_R (cat_I (cat_I (cat_I cat_nil)))) dX2_dutyOf_24 rfl (by decide) rfl [1, 2, 0, 3] rfl ?_
      refine s_iinc (v := (p3 + 1)) (lv' := [(0, va_rf (some x)), (1, .int p1), (2, .int (p2 + 1)), (3, .int (p3 + 1))]) (cat_R (cat_I (cat_I (cat_I cat_nil)))) dX2_dutyOf_25 (k0 := 3) rfl rfl (by decide) rfl [1, 2, 3, 0] rfl ?_
      refine g_goto 4 dX2_dutyOf_28 (by decide) ?_
      exact F
theorem rX2_dutyCount_0 {Γ : GE} {l : Launch} {h MC MS : Nat} {Q : Option Value → GH → Prop} {bc bs : Nat} {G : GH} (x : Nat) (p1 : Int32) (F : (gC G x = kO 1 ∧ cI Γ l h mX2_isCrew [.ref x, .int p1] G bc bs fun r1 Gr1 br1 sr1 => ((¬ r1 = 0 → (gC Gr1 x = kO 1 ∧ cV Γ l h mX2_take [.ref x, .int p1] Gr1 br1 sr1 fun Gr4 br4 sr4 => gC Gr4 x = kO 1 ∧ cI Γ l h mX2_dutyOf [.ref x, .int ((gI Gr4 x 8) - 1)] Gr4 br4 sr4 fun r8 Gr8 br8 sr8 => Q (some (.int (r8 + 1))) Gr8)) ∧ (r1 = 0 → (Q (some (.int (-1))) Gr1))))) : GW Γ l mX2_dutyCount h MC MS Q 0 [(0, va_rf (some x)), (1, .int p1)] [] G bc bs := by
  refine g_aload_n dX2_dutyCount_0 rfl 0 rfl ?_
  refine g_iload_n dX2_dutyCount_1 rfl 1 rfl ?_
  obtain ⟨c2, F⟩ := F
  refine h_callVI (ci := 1) (C := RX2) (T := TX2) (N := 30) (As := [.int p1]) (rest := []) F 1 rfl rfl (lw_V q2160 q2162 qs62 q117 q2163) vm_X2_isCrew (by decide) rfl c2 rfl (room_of sc_nil (Nat.le_of_ble_eq_true rfl)) dX2_dutyCount_2 (fun r1 Gr1 br1 sr1 F => ?_)
  refine g_if_ne 10 dX2_dutyCount_5 (by decide) (fun h10 => ?_) (fun h10 => ?_)
  · have F := F.1 h10
    refine g_aload_n dX2_dutyCount_10 rfl 0 rfl ?_
    refine g_iload_n dX2_dutyCount_11 rfl 1 rfl ?_
    obtain ⟨c5, F⟩ := F
    refine h_callVV (ci := 1) (C := RX2) (T := TX2) (N := 30) (As := [.int p1]) (rest := []) F 1 rfl rfl (lw_V q2168 q2170 qs64 q117 q2171) vm_X2_take (by decide) rfl c5 rfl (room_of sc_nil (Nat.le_of_ble_eq_true rfl)) dX2_dutyCount_12 (fun Gr4 br4 sr4 F => ?_)
    refine g_aload_n dX2_dutyCount_15 rfl 0 rfl ?_
    refine g_aload_n dX2_dutyCount_16 rfl 0 rfl ?_
    obtain ⟨c7, F⟩ := F
    refine h_get (v := .int (gI Gr4 x 8)) 1 8 (C := RX2) (T := TX2) (N := 30) rfl in_X2 (by decide) q1997 (Or.inl rfl) rfl c7 rfl dX2_dutyCount_17 ?_
    refine g_iconst (v := 1) dX2_dutyCount_20 (by decide) ?_
    refine g_isub dX2_dutyCount_21 ?_
    refine h_callVI (ci := 1) (C := RX2) (T := TX2) (N := 30) (As := [.int ((gI Gr4 x 8) - 1)]) (rest := []) F 1 rfl rfl (lw_V q2261 q2263 qs81 q117 q2264) vm_X2_dutyOf (by decide) rfl c7 rfl (room_of sc_nil (Nat.le_of_ble_eq_true rfl)) dX2_dutyCount_22 (fun r8 Gr8 br8 sr8 F => ?_)
    refine g_iconst (v := 1) dX2_dutyCount_25 (by decide) ?_
    refine g_iadd dX2_dutyCount_26 ?_
    exact g_iret rfl dX2_dutyCount_27 F
  · have F := F.2 h10
    refine g_iconst (v := (-1)) dX2_dutyCount_8 (by decide) ?_
    exact g_iret rfl dX2_dutyCount_9 F
theorem rX2_duty_0 {Γ : GE} {l : Launch} {h MC MS : Nat} {Q : Option Value → GH → Prop} {bc bs : Nat} {G : GH} (x : Nat) (p1 : Int32) (p2 : Int32) (p3 : Int32) (F : (gC G x = kO 1 ∧ cI Γ l h mX2_isCrew [.ref x, .int p1] G bc bs fun r1 Gr1 br1 sr1 => ((r1 = 0 → (Q (some (.int (-1))) Gr1)) ∧ (¬ r1 = 0 → (cI Γ l h mX2_in [.int p3, .int 0, .int 3] Gr1 br1 sr1 fun r4 Gr4 br4 sr4 => ((¬ r4 = 0 → (gC Gr4 x = kO 1 ∧ cV Γ l h mX2_take [.ref x, .int p1] Gr4 br4 sr4 fun Gr6 br6 sr6 => gC Gr6 x = kO 1 ∧ GW Γ l mX2_duty h MC MS Q 35 [(0, va_rf (some x)), (1, .int p1), (2, .int p2), (3, .int p3), (4, .int (-1)), (5, .int ((gI Gr6 x 8) - 1))] [] Gr6 br6 sr6)) ∧ (r4 = 0 → (Q (some (.int (-1))) Gr4)))))))) : GW Γ l mX2_duty h MC MS Q 0 [(0, va_rf (some x)), (1, .int p1), (2, .int p2), (3, .int p3)] [] G bc bs := by
  refine g_aload_n dX2_duty_0 rfl 0 rfl ?_
  refine g_iload_n dX2_duty_1 rfl 1 rfl ?_
  obtain ⟨c2, F⟩ := F
  refine h_callVI (ci := 1) (C := RX2) (T := TX2) (N := 30) (As := [.int p1]) (rest := []) F 1 rfl rfl (lw_V q2160 q2162 qs62 q117 q2163) vm_X2_isCrew (by decide) rfl c2 rfl (room_of sc_nil (Nat.le_of_ble_eq_true rfl)) dX2_duty_2 (fun r1 Gr1 br1 sr1 F => ?_)
  refine g_if_eq 17 dX2_duty_5 (by decide) (fun h11 => ?_) (fun h11 => ?_)
  · have F := F.1 h11
    refine g_iconst (v := (-1)) dX2_duty_17 (by decide) ?_
    exact g_iret rfl dX2_duty_18 F
  · have F := F.2 h11
    refine g_iload_n dX2_duty_8 rfl 3 rfl ?_
    refine g_iconst (v := 0) dX2_duty_9 (by decide) ?_
    refine g_iconst (v := 3) dX2_duty_10 (by decide) ?_
    refine h_callSI (As := [.int p3, .int 0, .int 3]) (rest := []) F 3 rfl (lw_S q2085 q2086 q117 q2087) vm_X2_in.2 (by decide) rfl (room_of sc_nil (Nat.le_of_ble_eq_true rfl)) dX2_duty_11 (fun r4 Gr4 br4 sr4 F => ?_)
    refine g_if_ne 19 dX2_duty_14 (by decide) (fun h10 => ?_) (fun h10 => ?_)
    · have F := F.1 h10
      refine g_aload_n dX2_duty_19 rfl 0 rfl ?_
      refine g_iload_n dX2_duty_20 rfl 1 rfl ?_
      obtain ⟨c7, F⟩ := F
      refine h_callVV (ci := 1) (C := RX2) (T := TX2) (N := 30) (As := [.int p1]) (rest := []) F 1 rfl rfl (lw_V q2168 q2170 qs64 q117 q2171) vm_X2_take (by decide) rfl c7 rfl (room_of sc_nil (Nat.le_of_ble_eq_true rfl)) dX2_duty_21 (fun Gr6 br6 sr6 F => ?_)
      refine g_iconst (v := (-1)) dX2_duty_24 (by decide) ?_
      refine s_istore (lv' := [(0, va_rf (some x)), (1, .int p1), (2, .int p2), (3, .int p3), (4, .int (-1))]) (cat_R (cat_I (cat_I (cat_I cat_nil)))) dX2_duty_25 (by decide) rfl [1, 2, 3, 4, 0] rfl ?_
      refine g_aload_n dX2_duty_27 rfl 0 rfl ?_
      obtain ⟨c9, F⟩ := F
      refine h_get (v := .int (gI Gr6 x 8)) 1 8 (C := RX2) (T := TX2) (N := 30) rfl in_X2 (by decide) q1997 (Or.inl rfl) rfl c9 rfl dX2_duty_28 ?_
      refine g_iconst (v := 1) dX2_duty_31 (by decide) ?_
      refine g_isub dX2_duty_32 ?_
      refine s_istore (lv' := [(0, va_rf (some x)), (1, .int p1), (2, .int p2), (3, .int p3), (4, .int (-1)), (5, .int ((gI Gr6 x 8) - 1))]) (cat_R (cat_I (cat_I (cat_I (cat_I cat_nil))))) dX2_duty_33 (by decide) rfl [1, 2, 3, 4, 5, 0] rfl ?_
      exact F
    · have F := F.2 h10
      refine g_iconst (v := (-1)) dX2_duty_17 (by decide) ?_
      exact g_iret rfl dX2_duty_18 F
theorem rX2_duty_35 {Γ : GE} {l : Launch} {h MC MS : Nat} {Q : Option Value → GH → Prop} {bc bs : Nat} {G : GH} (x : Nat) (p1 : Int32) (p2 : Int32) (p3 : Int32) (p4 : Int32) (p5 : Int32) (F : ((p5 < 0 → (((0 : Int32) ≤ p4 → (gC G x = kO 1 ∧ cI Γ l h mX2_dutyEnd [.ref x, .int p4] G bc bs fun r1 Gr1 br1 sr1 => ((¬ p3 = 0 → ((¬ p3 = 1 → ((¬ p3 = 2 → (Q (some (.int p4)) Gr1)) ∧ (p3 = 2 → (Q (some (.int (r1 - p4))) Gr1)))) ∧ (p3 = 1 → (gC Gr1 x = kO 1 ∧ cI Γ l h mX2_flownFrom [.ref x, .int p4, .int r1] Gr1 br1 sr1 fun r5 Gr5 br5 sr5 => Q (some (.int r5)) Gr5)))) ∧ (p3 = 0 → (gC Gr1 x = kO 1 ∧ cI Γ l h mX2_dutyMinutes [.ref x, .int p4] Gr1 br1 sr1 fun r9 Gr9 br9 sr9 => Q (some (.int r9)) Gr9))))) ∧ (¬ (0 : Int32) ≤ p4 → (Q (some (.int (-2))) G)))) ∧ (¬ p5 < 0 → (gC G x = kO 1 ∧ cI Γ l h mX2_dutyOf [.ref x, .int p5] G bc bs fun r14 Gr14 br14 sr14 => ((¬ r14 = p2 → (GW Γ l mX2_duty h MC MS Q 35 [(0, va_rf (some x)), (1, .int p1), (2, .int p2), (3, .int p3), (4, .int p4), (5, .int (p5 + (-1)))] [] Gr14 br14 sr14)) ∧ (r14 = p2 → (GW Γ l mX2_duty h MC MS Q 35 [(0, va_rf (some x)), (1, .int p1), (2, .int p2), (3, .int p3), (4, .int p5), (5, .int (p5 + (-1)))] [] Gr14 br14 sr14))))))) : GW Γ l mX2_duty h MC MS Q 35 [(0, va_rf (some x)), (1, .int p1), (2, .int p2), (3, .int p3), (4, .int p4), (5, .int p5)] [] G bc bs := by
  refine g_iload dX2_duty_35 5 rfl ?_
  refine g_if_lt 65 dX2_duty_37 (by decide) (fun h18 => ?_) (fun h18 => ?_)
  · have F := F.1 h18
    refine g_iload dX2_duty_65 4 rfl ?_
    refine g_if_ge 73 dX2_duty_67 (by decide) (fun h13 => ?_) (fun h13 => ?_)
    · have F := F.1 h13
      refine g_aload_n dX2_duty_73 rfl 0 rfl ?_
      refine g_iload dX2_duty_74 4 rfl ?_
      obtain ⟨c2, F⟩ := F
      refine h_callVI (ci := 1) (C := RX2) (T := TX2) (N := 30) (As := [.int p4]) (rest := []) F 1 rfl rfl (lw_V q2204 q2206 qs73 q117 q2207) vm_X2_dutyEnd (by decide) rfl c2 rfl (room_of sc_nil (Nat.le_of_ble_eq_true rfl)) dX2_duty_76 (fun r1 Gr1 br1 sr1 F => ?_)
      refine s_istore (lv' := [(0, va_rf (some x)), (1, .int p1), (2, .int p2), (3, .int p3), (4, .int p4), (5, .int r1)]) (cat_R (cat_I (cat_I (cat_I (cat_I (cat_I cat_nil)))))) dX2_duty_79 (by decide) rfl [1, 2, 3, 4, 5, 0] rfl ?_
      refine g_iload_n dX2_duty_81 rfl 3 rfl ?_
      refine g_if_ne 94 dX2_duty_82 (by decide) (fun h12 => ?_) (fun h12 => ?_)
      · have F := F.1 h12
        refine g_iload_n dX2_duty_94 rfl 3 rfl ?_
        refine g_iconst (v := 1) dX2_duty_95 (by decide) ?_
        refine g_icmp_ne 110 dX2_duty_96 (by decide) (fun h8 => ?_) (fun h8 => ?_)
        · have F := F.1 h8
          refine g_iload_n dX2_duty_110 rfl 3 rfl ?_
          refine g_iconst (v := 2) dX2_duty_111 (by decide) ?_
          refine g_icmp_ne 123 dX2_duty_112 (by decide) (fun h4 => ?_) (fun h4 => ?_)
          · have F := F.1 h4
            refine g_iload dX2_duty_123 4 rfl ?_
            exact g_iret rfl dX2_duty_125 F
          · have F := F.2 h4
            refine g_iload dX2_duty_115 5 rfl ?_
            refine g_iload dX2_duty_117 4 rfl ?_
            refine g_isub dX2_duty_119 ?_
            refine g_goto 125 dX2_duty_120 (by decide) ?_
            exact g_iret rfl dX2_duty_125 F
        · have F := F.2 h8
          refine g_aload_n dX2_duty_99 rfl 0 rfl ?_
          refine g_iload dX2_duty_100 4 rfl ?_
          refine g_iload dX2_duty_102 5 rfl ?_
          obtain ⟨c6, F⟩ := F
          refine h_callVI (ci := 1) (C := RX2) (T := TX2) (N := 30) (As := [.int p4, .int r1]) (rest := []) F 2 rfl rfl (lw_V q2208 q2210 qs74 q117 q2211) vm_X2_flownFrom (by decide) rfl c6 rfl (room_of sc_nil (Nat.le_of_ble_eq_true rfl)) dX2_duty_104 (fun r5 Gr5 br5 sr5 F => ?_)
          refine g_goto 125 dX2_duty_107 (by decide) ?_
          exact g_iret rfl dX2_duty_125 F
      · have F := F.2 h12
        refine g_aload_n dX2_duty_85 rfl 0 rfl ?_
        refine g_iload dX2_duty_86 4 rfl ?_
        obtain ⟨c10, F⟩ := F
        refine h_callVI (ci := 1) (C := RX2) (T := TX2) (N := 30) (As := [.int p4]) (rest := []) F 1 rfl rfl (lw_V q2200 q2202 qs72 q117 q2203) vm_X2_dutyMinutes (by decide) rfl c10 rfl (room_of sc_nil (Nat.le_of_ble_eq_true rfl)) dX2_duty_88 (fun r9 Gr9 br9 sr9 F => ?_)
        refine g_goto 125 dX2_duty_91 (by decide) ?_
        exact g_iret rfl dX2_duty_125 F
    · have F := F.2 h13
      refine g_bipush (v := (-2)) dX2_duty_70 (by decide) ?_
      exact g_iret rfl dX2_duty_72 F
  · have F := F.2 h18
    refine g_aload_n dX2_duty_40 rfl 0 rfl ?_
    refine g_iload dX2_duty_41 5 rfl ?_
    obtain ⟨c15, F⟩ := F
    refine h_callVI (ci := 1) (C := RX2) (T := TX2) (N := 30) (As := [.int p5]) (rest := []) F 1 rfl rfl (lw_V q2261 q2263 qs81 q117 q2264) vm_X2_dutyOf (by decide) rfl c15 rfl (room_of sc_nil (Nat.le_of_ble_eq_true rfl)) dX2_duty_43 (fun r14 Gr14 br14 sr14 F => ?_)
    refine g_iload_n dX2_duty_46 rfl 2 rfl ?_
    refine g_icmp_ne 55 dX2_duty_47 (by decide) (fun h17 => ?_) (fun h17 => ?_)
    · have F := F.1 h17
      refine g_iload dX2_duty_55 4 rfl ?_
      refine s_istore (lv' := [(0, va_rf (some x)), (1, .int p1), (2, .int p2), (3, .int p3), (4, .int p4), (5, .int p5)]) (cat_R (cat_I (cat_I (cat_I (cat_I (cat_I cat_nil)))))) dX2_duty_57 (by decide) rfl [1, 2, 3, 4, 0, 5] rfl ?_
      refine s_iinc (v := (p5 + (-1))) (lv' := [(0, va_rf (some x)), (1, .int p1), (2, .int p2), (3, .int p3), (4, .int p4), (5, .int (p5 + (-1)))]) (cat_R (cat_I (cat_I (cat_I (cat_I (cat_I cat_nil)))))) dX2_duty_59 (k0 := 5) rfl rfl (by decide) rfl [1, 2, 3, 4, 5, 0] rfl ?_
      refine g_goto 35 dX2_duty_62 (by decide) ?_
      exact F
    · have F := F.2 h17
      refine g_iload dX2_duty_50 5 rfl ?_
      refine g_goto 57 dX2_duty_52 (by decide) ?_
      refine s_istore (lv' := [(0, va_rf (some x)), (1, .int p1), (2, .int p2), (3, .int p3), (4, .int p5), (5, .int p5)]) (cat_R (cat_I (cat_I (cat_I (cat_I (cat_I cat_nil)))))) dX2_duty_57 (by decide) rfl [1, 2, 3, 4, 0, 5] rfl ?_
      refine s_iinc (v := (p5 + (-1))) (lv' := [(0, va_rf (some x)), (1, .int p1), (2, .int p2), (3, .int p3), (4, .int p5), (5, .int (p5 + (-1)))]) (cat_R (cat_I (cat_I (cat_I (cat_I (cat_I cat_nil)))))) dX2_duty_59 (k0 := 5) rfl rfl (by decide) rfl [1, 2, 3, 4, 5, 0] rfl ?_
      refine g_goto 35 dX2_duty_62 (by decide) ?_
      exact F
theorem rX2_violationCount_0 {Γ : GE} {l : Launch} {h MC MS : Nat} {Q : Option Value → GH → Prop} {bc bs : Nat} {G : GH} (x : Nat) (p1 : Int32) (F : (gC G x = kO 1 ∧ cI Γ l h mX2_isCrew [.ref x, .int p1] G bc bs fun r1 Gr1 br1 sr1 => ((¬ r1 = 0 → (gC Gr1 x = kO 1 ∧ cV Γ l h mX2_take [.ref x, .int p1] Gr1 br1 sr1 fun Gr4 br4 sr4 => gC Gr4 x = kO 1 ∧ cI Γ l h mX2_violations [.ref x] Gr4 br4 sr4 fun r7 Gr7 br7 sr7 => Q (some (.int r7)) Gr7)) ∧ (r1 = 0 → (Q (some (.int (-1))) Gr1))))) : GW Γ l mX2_violationCount h MC MS Q 0 [(0, va_rf (some x)), (1, .int p1)] [] G bc bs := by
  refine g_aload_n dX2_violationCount_0 rfl 0 rfl ?_
  refine g_iload_n dX2_violationCount_1 rfl 1 rfl ?_
  obtain ⟨c2, F⟩ := F
  refine h_callVI (ci := 1) (C := RX2) (T := TX2) (N := 30) (As := [.int p1]) (rest := []) F 1 rfl rfl (lw_V q2160 q2162 qs62 q117 q2163) vm_X2_isCrew (by decide) rfl c2 rfl (room_of sc_nil (Nat.le_of_ble_eq_true rfl)) dX2_violationCount_2 (fun r1 Gr1 br1 sr1 F => ?_)
  refine g_if_ne 10 dX2_violationCount_5 (by decide) (fun h10 => ?_) (fun h10 => ?_)
  · have F := F.1 h10
    refine g_aload_n dX2_violationCount_10 rfl 0 rfl ?_
    refine g_iload_n dX2_violationCount_11 rfl 1 rfl ?_
    obtain ⟨c5, F⟩ := F
    refine h_callVV (ci := 1) (C := RX2) (T := TX2) (N := 30) (As := [.int p1]) (rest := []) F 1 rfl rfl (lw_V q2168 q2170 qs64 q117 q2171) vm_X2_take (by decide) rfl c5 rfl (room_of sc_nil (Nat.le_of_ble_eq_true rfl)) dX2_violationCount_12 (fun Gr4 br4 sr4 F => ?_)
    refine g_aload_n dX2_violationCount_15 rfl 0 rfl ?_
    obtain ⟨c8, F⟩ := F
    refine h_callVI (ci := 1) (C := RX2) (T := TX2) (N := 30) (As := []) (rest := []) F 0 rfl rfl (lw_V q2277 q2279 qs82 q117 q2280) vm_X2_violations (by decide) rfl c8 rfl (room_of sc_nil (Nat.le_of_ble_eq_true rfl)) dX2_violationCount_16 (fun r7 Gr7 br7 sr7 F => ?_)
    exact g_iret rfl dX2_violationCount_19 F
  · have F := F.2 h10
    refine g_iconst (v := (-1)) dX2_violationCount_8 (by decide) ?_
    exact g_iret rfl dX2_violationCount_9 F
theorem rX2_violations_0 {Γ : GE} {l : Launch} {h MC MS : Nat} {Q : Option Value → GH → Prop} {bc bs : Nat} {G : GH} (x : Nat) (F : (GW Γ l mX2_violations h MC MS Q 2 [(0, va_rf (some x)), (1, .int 0)] [] G bc bs)) : GW Γ l mX2_violations h MC MS Q 0 [(0, va_rf (some x))] [] G bc bs := by
  refine g_iconst (v := 0) dX2_violations_0 (by decide) ?_
  refine s_istore_n (lv' := [(0, va_rf (some x)), (1, .int 0)]) (cat_R cat_nil) dX2_violations_1 rfl (by decide) rfl [1, 0] rfl ?_
  exact F
theorem rX2_violations_2 {Γ : GE} {l : Launch} {h MC MS : Nat} {Q : Option Value → GH → Prop} {bc bs : Nat} {G : GH} (x : Nat) (p1 : Int32) (F : (gC G x = kO 1 ∧ cI Γ l h mX2_violationAt [.ref x, .int p1] G bc bs fun r1 Gr1 br1 sr1 => ((r1 ≤ 0 → (Q (some (.int p1)) Gr1)) ∧ (¬ r1 ≤ 0 → (GW Γ l mX2_violations h MC MS Q 2 [(0, va_rf (some x)), (1, .int (p1 + 1))] [] Gr1 br1 sr1))))) : GW Γ l mX2_violations h MC MS Q 2 [(0, va_rf (some x)), (1, .int p1)] [] G bc bs := by
  refine g_aload_n dX2_violations_2 rfl 0 rfl ?_
  refine g_iload_n dX2_violations_3 rfl 1 rfl ?_
  obtain ⟨c2, F⟩ := F
  refine h_callVI (ci := 1) (C := RX2) (T := TX2) (N := 30) (As := [.int p1]) (rest := []) F 1 rfl rfl (lw_V q2184 q2186 qs68 q117 q2187) vm_X2_violationAt (by decide) rfl c2 rfl (room_of sc_nil (Nat.le_of_ble_eq_true rfl)) dX2_violations_4 (fun r1 Gr1 br1 sr1 F => ?_)
  refine g_if_le 16 dX2_violations_7 (by decide) (fun h4 => ?_) (fun h4 => ?_)
  · have F := F.1 h4
    refine g_iload_n dX2_violations_16 rfl 1 rfl ?_
    exact g_iret rfl dX2_violations_17 F
  · have F := F.2 h4
    refine s_iinc (v := (p1 + 1)) (lv' := [(0, va_rf (some x)), (1, .int (p1 + 1))]) (cat_R (cat_I cat_nil)) dX2_violations_10 (k0 := 1) rfl rfl (by decide) rfl [1, 0] rfl ?_
    refine g_goto 2 dX2_violations_13 (by decide) ?_
    exact F
theorem rX2_violation_0 {Γ : GE} {l : Launch} {h MC MS : Nat} {Q : Option Value → GH → Prop} {bc bs : Nat} {G : GH} (x : Nat) (p1 : Int32) (p2 : Int32) (p3 : Int32) (F : (gC G x = kO 1 ∧ cI Γ l h mX2_isCrew [.ref x, .int p1] G bc bs fun r1 Gr1 br1 sr1 => ((r1 = 0 → (Q (some (.int (-1))) Gr1)) ∧ (¬ r1 = 0 → (cI Γ l h mX2_in [.int p3, .int 0, .int 1] Gr1 br1 sr1 fun r4 Gr4 br4 sr4 => ((¬ r4 = 0 → (gC Gr4 x = kO 1 ∧ cV Γ l h mX2_take [.ref x, .int p1] Gr4 br4 sr4 fun Gr6 br6 sr6 => (((0 : Int32) ≤ p2 → (gC Gr6 x = kO 1 ∧ cI Γ l h mX2_violationAt [.ref x, .int p2] Gr6 br6 sr6 fun r9 Gr9 br9 sr9 => GW Γ l mX2_violation h MC MS Q 37 [(0, va_rf (some x)), (1, .int p1), (2, .int p2), (3, .int p3)] [.int r9] Gr9 br9 sr9)) ∧ (¬ (0 : Int32) ≤ p2 → (GW Γ l mX2_violation h MC MS Q 37 [(0, va_rf (some x)), (1, .int p1), (2, .int p2), (3, .int p3)] [.int 0] Gr6 br6 sr6))))) ∧ (r4 = 0 → (Q (some (.int (-1))) Gr4)))))))) : GW Γ l mX2_violation h MC MS Q 0 [(0, va_rf (some x)), (1, .int p1), (2, .int p2), (3, .int p3)] [] G bc bs := by
  refine g_aload_n dX2_violation_0 rfl 0 rfl ?_
  refine g_iload_n dX2_violation_1 rfl 1 rfl ?_
  obtain ⟨c2, F⟩ := F
  refine h_callVI (ci := 1) (C := RX2) (T := TX2) (N := 30) (As := [.int p1]) (rest := []) F 1 rfl rfl (lw_V q2160 q2162 qs62 q117 q2163) vm_X2_isCrew (by decide) rfl c2 rfl (room_of sc_nil (Nat.le_of_ble_eq_true rfl)) dX2_violation_2 (fun r1 Gr1 br1 sr1 F => ?_)
  refine g_if_eq 17 dX2_violation_5 (by decide) (fun h14 => ?_) (fun h14 => ?_)
  · have F := F.1 h14
    refine g_iconst (v := (-1)) dX2_violation_17 (by decide) ?_
    exact g_iret rfl dX2_violation_18 F
  · have F := F.2 h14
    refine g_iload_n dX2_violation_8 rfl 3 rfl ?_
    refine g_iconst (v := 0) dX2_violation_9 (by decide) ?_
    refine g_iconst (v := 1) dX2_violation_10 (by decide) ?_
    refine h_callSI (As := [.int p3, .int 0, .int 1]) (rest := []) F 3 rfl (lw_S q2085 q2086 q117 q2087) vm_X2_in.2 (by decide) rfl (room_of sc_nil (Nat.le_of_ble_eq_true rfl)) dX2_violation_11 (fun r4 Gr4 br4 sr4 F => ?_)
    refine g_if_ne 19 dX2_violation_14 (by decide) (fun h13 => ?_) (fun h13 => ?_)
    · have F := F.1 h13
      refine g_aload_n dX2_violation_19 rfl 0 rfl ?_
      refine g_iload_n dX2_violation_20 rfl 1 rfl ?_
      obtain ⟨c7, F⟩ := F
      refine h_callVV (ci := 1) (C := RX2) (T := TX2) (N := 30) (As := [.int p1]) (rest := []) F 1 rfl rfl (lw_V q2168 q2170 qs64 q117 q2171) vm_X2_take (by decide) rfl c7 rfl (room_of sc_nil (Nat.le_of_ble_eq_true rfl)) dX2_violation_21 (fun Gr6 br6 sr6 F => ?_)
      refine g_iload_n dX2_violation_24 rfl 2 rfl ?_
      refine g_if_ge 32 dX2_violation_25 (by decide) (fun h12 => ?_) (fun h12 => ?_)
      · have F := F.1 h12
        refine g_aload_n dX2_violation_32 rfl 0 rfl ?_
        refine g_iload_n dX2_violation_33 rfl 2 rfl ?_
        obtain ⟨c10, F⟩ := F
        refine h_callVI (ci := 1) (C := RX2) (T := TX2) (N := 30) (As := [.int p2]) (rest := []) F 1 rfl rfl (lw_V q2184 q2186 qs68 q117 q2187) vm_X2_violationAt (by decide) rfl c10 rfl (room_of sc_nil (Nat.le_of_ble_eq_true rfl)) dX2_violation_34 (fun r9 Gr9 br9 sr9 F => ?_)
        exact F
      · have F := F.2 h12
        refine g_iconst (v := 0) dX2_violation_28 (by decide) ?_
        refine g_goto 37 dX2_violation_29 (by decide) ?_
        exact F
    · have F := F.2 h13
      refine g_iconst (v := (-1)) dX2_violation_17 (by decide) ?_
      exact g_iret rfl dX2_violation_18 F
theorem rX2_violation_37 {Γ : GE} {l : Launch} {h MC MS : Nat} {Q : Option Value → GH → Prop} {bc bs : Nat} {G : GH} (x : Nat) (p1 : Int32) (p2 : Int32) (p3 : Int32) (s0 : Int32) (F : ((¬ s0 = 0 → ((¬ p3 = 0 → (Q (some (.int (s0 - s0 / 100 * 100))) G)) ∧ (p3 = 0 → (Q (some (.int (s0 / 100))) G)))) ∧ (s0 = 0 → (Q (some (.int (-2))) G)))) : GW Γ l mX2_violation h MC MS Q 37 [(0, va_rf (some x)), (1, .int p1), (2, .int p2), (3, .int p3)] [.int s0] G bc bs := by
  refine s_istore (lv' := [(0, va_rf (some x)), (1, .int p1), (2, .int p2), (3, .int p3), (4, .int s0)]) (cat_R (cat_I (cat_I (cat_I cat_nil)))) dX2_violation_37 (by decide) rfl [1, 2, 3, 4, 0] rfl ?_
  refine g_iload dX2_violation_39 4 rfl ?_
  refine g_if_ne 49 dX2_violation_41 (by decide) (fun h2 => ?_) (fun h2 => ?_)
  · have F := F.1 h2
    refine g_iload_n dX2_violation_49 rfl 3 rfl ?_
    refine g_if_ne 61 dX2_violation_50 (by decide) (fun h1 => ?_) (fun h1 => ?_)
    · have F := F.1 h1
      refine g_iload dX2_violation_61 4 rfl ?_
      refine g_bipush (v := 100) dX2_violation_63 (by decide) ?_
      refine g_irem dX2_violation_65 (by decide) ?_
      exact g_iret rfl dX2_violation_66 F
    · have F := F.2 h1
      refine g_iload dX2_violation_53 4 rfl ?_
      refine g_bipush (v := 100) dX2_violation_55 (by decide) ?_
      refine g_idiv dX2_violation_57 (by decide) ?_
      refine g_goto 66 dX2_violation_58 (by decide) ?_
      exact g_iret rfl dX2_violation_66 F
  · have F := F.2 h2
    refine g_bipush (v := (-2)) dX2_violation_44 (by decide) ?_
    refine g_goto 66 dX2_violation_46 (by decide) ?_
    exact g_iret rfl dX2_violation_66 F
theorem rX2_minutes_0 {Γ : GE} {l : Launch} {h MC MS : Nat} {Q : Option Value → GH → Prop} {bc bs : Nat} {G : GH} (x : Nat) (p1 : Int32) (F : (gC G x = kO 1 ∧ cI Γ l h mX2_isCrew [.ref x, .int p1] G bc bs fun r1 Gr1 br1 sr1 => ((r1 = 0 → (Q (some (.int (-1))) Gr1)) ∧ (¬ r1 = 0 → (gC Gr1 x = kO 1 ∧ cI Γ l h mX2_minutesOf [.ref x, .int p1] Gr1 br1 sr1 fun r4 Gr4 br4 sr4 => Q (some (.int r4)) Gr4))))) : GW Γ l mX2_minutes h MC MS Q 0 [(0, va_rf (some x)), (1, .int p1)] [] G bc bs := by
  refine g_aload_n dX2_minutes_0 rfl 0 rfl ?_
  refine g_iload_n dX2_minutes_1 rfl 1 rfl ?_
  obtain ⟨c2, F⟩ := F
  refine h_callVI (ci := 1) (C := RX2) (T := TX2) (N := 30) (As := [.int p1]) (rest := []) F 1 rfl rfl (lw_V q2160 q2162 qs62 q117 q2163) vm_X2_isCrew (by decide) rfl c2 rfl (room_of sc_nil (Nat.le_of_ble_eq_true rfl)) dX2_minutes_2 (fun r1 Gr1 br1 sr1 F => ?_)
  refine g_if_eq 16 dX2_minutes_5 (by decide) (fun h7 => ?_) (fun h7 => ?_)
  · have F := F.1 h7
    refine g_iconst (v := (-1)) dX2_minutes_16 (by decide) ?_
    exact g_iret rfl dX2_minutes_17 F
  · have F := F.2 h7
    refine g_aload_n dX2_minutes_8 rfl 0 rfl ?_
    refine g_iload_n dX2_minutes_9 rfl 1 rfl ?_
    obtain ⟨c5, F⟩ := F
    refine h_callVI (ci := 1) (C := RX2) (T := TX2) (N := 30) (As := [.int p1]) (rest := []) F 1 rfl rfl (lw_V q2289 q2291 qs83 q117 q2292) vm_X2_minutesOf (by decide) rfl c5 rfl (room_of sc_nil (Nat.le_of_ble_eq_true rfl)) dX2_minutes_10 (fun r4 Gr4 br4 sr4 F => ?_)
    refine g_goto 17 dX2_minutes_13 (by decide) ?_
    exact g_iret rfl dX2_minutes_17 F
theorem rX2_minutesOf_0 {Γ : GE} {l : Launch} {h MC MS : Nat} {Q : Option Value → GH → Prop} {bc bs : Nat} {G : GH} (x : Nat) (p1 : Int32) (F : (gC G x = kO 1 ∧ cV Γ l h mX2_take [.ref x, .int p1] G bc bs fun Gr1 br1 sr1 => gC Gr1 x = kO 1 ∧ cI Γ l h mX2_flownFrom [.ref x, .int 0, .int (gI Gr1 x 8)] Gr1 br1 sr1 fun r5 Gr5 br5 sr5 => Q (some (.int r5)) Gr5)) : GW Γ l mX2_minutesOf h MC MS Q 0 [(0, va_rf (some x)), (1, .int p1)] [] G bc bs := by
  refine g_aload_n dX2_minutesOf_0 rfl 0 rfl ?_
  refine g_iload_n dX2_minutesOf_1 rfl 1 rfl ?_
  obtain ⟨c2, F⟩ := F
  refine h_callVV (ci := 1) (C := RX2) (T := TX2) (N := 30) (As := [.int p1]) (rest := []) F 1 rfl rfl (lw_V q2168 q2170 qs64 q117 q2171) vm_X2_take (by decide) rfl c2 rfl (room_of sc_nil (Nat.le_of_ble_eq_true rfl)) dX2_minutesOf_2 (fun Gr1 br1 sr1 F => ?_)
  refine g_aload_n dX2_minutesOf_5 rfl 0 rfl ?_
  refine g_iconst (v := 0) dX2_minutesOf_6 (by decide) ?_
  refine g_aload_n dX2_minutesOf_7 rfl 0 rfl ?_
  obtain ⟨c4, F⟩ := F
  refine h_get (v := .int (gI Gr1 x 8)) 1 8 (C := RX2) (T := TX2) (N := 30) rfl in_X2 (by decide) q1997 (Or.inl rfl) rfl c4 rfl dX2_minutesOf_8 ?_
  refine h_callVI (ci := 1) (C := RX2) (T := TX2) (N := 30) (As := [.int 0, .int (gI Gr1 x 8)]) (rest := []) F 2 rfl rfl (lw_V q2208 q2210 qs74 q117 q2211) vm_X2_flownFrom (by decide) rfl c4 rfl (room_of sc_nil (Nat.le_of_ble_eq_true rfl)) dX2_minutesOf_11 (fun r5 Gr5 br5 sr5 F => ?_)
  exact g_iret rfl dX2_minutesOf_14 F
theorem rX2_within_0 {Γ : GE} {l : Launch} {h MC MS : Nat} {Q : Option Value → GH → Prop} {bc bs : Nat} {G : GH} (x : Nat) (p1 : Int32) (p2 : Int32) (p3 : Int32) (F : (gC G x = kO 1 ∧ cI Γ l h mX2_isCrew [.ref x, .int p1] G bc bs fun r1 Gr1 br1 sr1 => ((r1 = 0 → (Q (some (.int (-1))) Gr1)) ∧ (¬ r1 = 0 → (cI Γ l h mX2_in [.int p2, .int 0, .int 5999] Gr1 br1 sr1 fun r4 Gr4 br4 sr4 => ((r4 = 0 → (Q (some (.int (-1))) Gr4)) ∧ (¬ r4 = 0 → (cI Γ l h mX2_in [.int p3, .int 1, .int 6000] Gr4 br4 sr4 fun r6 Gr6 br6 sr6 => ((¬ r6 = 0 → (gC Gr6 x = kO 1 ∧ cV Γ l h mX2_take [.ref x, .int p1] Gr6 br6 sr6 fun Gr8 br8 sr8 => gC Gr8 x = kO 1 ∧ cI Γ l h mX2_flownWithin [.ref x, .int p2, .int p3] Gr8 br8 sr8 fun r11 Gr11 br11 sr11 => Q (some (.int r11)) Gr11)) ∧ (r6 = 0 → (Q (some (.int (-1))) Gr6))))))))))) : GW Γ l mX2_within h MC MS Q 0 [(0, va_rf (some x)), (1, .int p1), (2, .int p2), (3, .int p3)] [] G bc bs := by
  refine g_aload_n dX2_within_0 rfl 0 rfl ?_
  refine g_iload_n dX2_within_1 rfl 1 rfl ?_
  obtain ⟨c2, F⟩ := F
  refine h_callVI (ci := 1) (C := RX2) (T := TX2) (N := 30) (As := [.int p1]) (rest := []) F 1 rfl rfl (lw_V q2160 q2162 qs62 q117 q2163) vm_X2_isCrew (by decide) rfl c2 rfl (room_of sc_nil (Nat.le_of_ble_eq_true rfl)) dX2_within_2 (fun r1 Gr1 br1 sr1 F => ?_)
  refine g_if_eq 30 dX2_within_5 (by decide) (fun h16 => ?_) (fun h16 => ?_)
  · have F := F.1 h16
    refine g_iconst (v := (-1)) dX2_within_30 (by decide) ?_
    exact g_iret rfl dX2_within_31 F
  · have F := F.2 h16
    refine g_iload_n dX2_within_8 rfl 2 rfl ?_
    refine g_iconst (v := 0) dX2_within_9 (by decide) ?_
    refine g_sipush (v := 5999) dX2_within_10 (by decide) ?_
    refine h_callSI (As := [.int p2, .int 0, .int 5999]) (rest := []) F 3 rfl (lw_S q2085 q2086 q117 q2087) vm_X2_in.2 (by decide) rfl (room_of sc_nil (Nat.le_of_ble_eq_true rfl)) dX2_within_13 (fun r4 Gr4 br4 sr4 F => ?_)
    refine g_if_eq 30 dX2_within_16 (by decide) (fun h15 => ?_) (fun h15 => ?_)
    · have F := F.1 h15
      refine g_iconst (v := (-1)) dX2_within_30 (by decide) ?_
      exact g_iret rfl dX2_within_31 F
    · have F := F.2 h15
      refine g_iload_n dX2_within_19 rfl 3 rfl ?_
      refine g_iconst (v := 1) dX2_within_20 (by decide) ?_
      refine g_sipush (v := 6000) dX2_within_21 (by decide) ?_
      refine h_callSI (As := [.int p3, .int 1, .int 6000]) (rest := []) F 3 rfl (lw_S q2085 q2086 q117 q2087) vm_X2_in.2 (by decide) rfl (room_of sc_nil (Nat.le_of_ble_eq_true rfl)) dX2_within_24 (fun r6 Gr6 br6 sr6 F => ?_)
      refine g_if_ne 32 dX2_within_27 (by decide) (fun h14 => ?_) (fun h14 => ?_)
      · have F := F.1 h14
        refine g_aload_n dX2_within_32 rfl 0 rfl ?_
        refine g_iload_n dX2_within_33 rfl 1 rfl ?_
        obtain ⟨c9, F⟩ := F
        refine h_callVV (ci := 1) (C := RX2) (T := TX2) (N := 30) (As := [.int p1]) (rest := []) F 1 rfl rfl (lw_V q2168 q2170 qs64 q117 q2171) vm_X2_take (by decide) rfl c9 rfl (room_of sc_nil (Nat.le_of_ble_eq_true rfl)) dX2_within_34 (fun Gr8 br8 sr8 F => ?_)
        refine g_aload_n dX2_within_37 rfl 0 rfl ?_
        refine g_iload_n dX2_within_38 rfl 2 rfl ?_
        refine g_iload_n dX2_within_39 rfl 3 rfl ?_
        obtain ⟨c12, F⟩ := F
        refine h_callVI (ci := 1) (C := RX2) (T := TX2) (N := 30) (As := [.int p2, .int p3]) (rest := []) F 2 rfl rfl (lw_V q2220 q2222 qs77 q117 q2223) vm_X2_flownWithin (by decide) rfl c12 rfl (room_of sc_nil (Nat.le_of_ble_eq_true rfl)) dX2_within_40 (fun r11 Gr11 br11 sr11 F => ?_)
        exact g_iret rfl dX2_within_43 F
      · have F := F.2 h14
        refine g_iconst (v := (-1)) dX2_within_30 (by decide) ?_
        exact g_iret rfl dX2_within_31 F
theorem rX2_home_0 {Γ : GE} {l : Launch} {h MC MS : Nat} {Q : Option Value → GH → Prop} {bc bs : Nat} {G : GH} (x : Nat) (p1 : Int32) (F : (gC G x = kO 1 ∧ cI Γ l h mX2_isCrew [.ref x, .int p1] G bc bs fun r1 Gr1 br1 sr1 => ((¬ r1 = 0 → (gC Gr1 x = kO 1 ∧ cV Γ l h mX2_take [.ref x, .int p1] Gr1 br1 sr1 fun Gr4 br4 sr4 => gC Gr4 x = kO 1 ∧ cI Γ l h mX2_isHome [.ref x] Gr4 br4 sr4 fun r7 Gr7 br7 sr7 => ((r7 = 0 → (Q (some (.int 0)) Gr7)) ∧ (¬ r7 = 0 → (Q (some (.int 1)) Gr7))))) ∧ (r1 = 0 → (Q (some (.int (-1))) Gr1))))) : GW Γ l mX2_home h MC MS Q 0 [(0, va_rf (some x)), (1, .int p1)] [] G bc bs := by
  refine g_aload_n dX2_home_0 rfl 0 rfl ?_
  refine g_iload_n dX2_home_1 rfl 1 rfl ?_
  obtain ⟨c2, F⟩ := F
  refine h_callVI (ci := 1) (C := RX2) (T := TX2) (N := 30) (As := [.int p1]) (rest := []) F 1 rfl rfl (lw_V q2160 q2162 qs62 q117 q2163) vm_X2_isCrew (by decide) rfl c2 rfl (room_of sc_nil (Nat.le_of_ble_eq_true rfl)) dX2_home_2 (fun r1 Gr1 br1 sr1 F => ?_)
  refine g_if_ne 10 dX2_home_5 (by decide) (fun h11 => ?_) (fun h11 => ?_)
  · have F := F.1 h11
    refine g_aload_n dX2_home_10 rfl 0 rfl ?_
    refine g_iload_n dX2_home_11 rfl 1 rfl ?_
    obtain ⟨c5, F⟩ := F
    refine h_callVV (ci := 1) (C := RX2) (T := TX2) (N := 30) (As := [.int p1]) (rest := []) F 1 rfl rfl (lw_V q2168 q2170 qs64 q117 q2171) vm_X2_take (by decide) rfl c5 rfl (room_of sc_nil (Nat.le_of_ble_eq_true rfl)) dX2_home_12 (fun Gr4 br4 sr4 F => ?_)
    refine g_aload_n dX2_home_15 rfl 0 rfl ?_
    obtain ⟨c8, F⟩ := F
    refine h_callVI (ci := 1) (C := RX2) (T := TX2) (N := 30) (As := []) (rest := []) F 0 rfl rfl (lw_V q2301 q2303 qs84 q117 q2304) vm_X2_isHome (by decide) rfl c8 rfl (room_of sc_nil (Nat.le_of_ble_eq_true rfl)) dX2_home_16 (fun r7 Gr7 br7 sr7 F => ?_)
    refine g_if_eq 26 dX2_home_19 (by decide) (fun h10 => ?_) (fun h10 => ?_)
    · have F := F.1 h10
      refine g_iconst (v := 0) dX2_home_26 (by decide) ?_
      exact g_iret rfl dX2_home_27 F
    · have F := F.2 h10
      refine g_iconst (v := 1) dX2_home_22 (by decide) ?_
      refine g_goto 27 dX2_home_23 (by decide) ?_
      exact g_iret rfl dX2_home_27 F
  · have F := F.2 h11
    refine g_iconst (v := (-1)) dX2_home_8 (by decide) ?_
    exact g_iret rfl dX2_home_9 F
theorem rX2_isHome_0 {Γ : GE} {l : Launch} {h MC MS : Nat} {Q : Option Value → GH → Prop} {bc bs : Nat} {G : GH} (x : Nat) (F : (gC G x = kO 1 ∧ (((gI G x 8) = 0 → (Q (some (.int 1)) G)) ∧ (¬ (gI G x 8) = 0 → (cI Γ l h mX2_legAt [.ref x, .int ((gI G x 8) - 1)] G bc bs fun r2 Gr2 br2 sr2 => gC Gr2 x = kO 1 ∧ cI Γ l h mX2_of [.ref x, .int r2, .int 1] Gr2 br2 sr2 fun r4 Gr4 br4 sr4 => gC Gr4 x = kO 1 ∧ ((¬ r4 = (gI Gr4 x 9) → (Q (some (.int 0)) Gr4)) ∧ (r4 = (gI Gr4 x 9) → (Q (some (.int 1)) Gr4)))))))) : GW Γ l mX2_isHome h MC MS Q 0 [(0, va_rf (some x))] [] G bc bs := by
  refine g_aload_n dX2_isHome_0 rfl 0 rfl ?_
  obtain ⟨c1, F⟩ := F
  refine h_get (v := .int (gI G x 8)) 1 8 (C := RX2) (T := TX2) (N := 30) rfl in_X2 (by decide) q1997 (Or.inl rfl) rfl c1 rfl dX2_isHome_1 ?_
  refine g_if_eq 29 dX2_isHome_4 (by decide) (fun h9 => ?_) (fun h9 => ?_)
  · have F := F.1 h9
    refine g_iconst (v := 1) dX2_isHome_29 (by decide) ?_
    refine g_goto 34 dX2_isHome_30 (by decide) ?_
    exact g_zret rfl rfl dX2_isHome_34 F
  · have F := F.2 h9
    refine g_aload_n dX2_isHome_7 rfl 0 rfl ?_
    refine g_aload_n dX2_isHome_8 rfl 0 rfl ?_
    refine g_aload_n dX2_isHome_9 rfl 0 rfl ?_
    refine h_get (v := .int (gI G x 8)) 1 8 (C := RX2) (T := TX2) (N := 30) rfl in_X2 (by decide) q1997 (Or.inl rfl) rfl c1 rfl dX2_isHome_10 ?_
    refine g_iconst (v := 1) dX2_isHome_13 (by decide) ?_
    refine g_isub dX2_isHome_14 ?_
    refine h_callVI (ci := 1) (C := RX2) (T := TX2) (N := 30) (As := [.int ((gI G x 8) - 1)]) (rest := [va_rf (some x)]) F 1 rfl rfl (lw_V q2176 q2178 qs66 q117 q2179) vm_X2_legAt (by decide) rfl c1 rfl (room_of (sc_R sc_nil) (Nat.le_of_ble_eq_true rfl)) dX2_isHome_15 (fun r2 Gr2 br2 sr2 F => ?_)
    refine g_iconst (v := 1) dX2_isHome_18 (by decide) ?_
    obtain ⟨c5, F⟩ := F
    refine h_callVI (ci := 1) (C := RX2) (T := TX2) (N := 30) (As := [.int r2, .int 1]) (rest := []) F 2 rfl rfl (lw_V q2093 q2095 qs54 q117 q2096) vm_X2_of (by decide) rfl c5 rfl (room_of sc_nil (Nat.le_of_ble_eq_true rfl)) dX2_isHome_19 (fun r4 Gr4 br4 sr4 F => ?_)
    refine g_aload_n dX2_isHome_22 rfl 0 rfl ?_
    obtain ⟨c7, F⟩ := F
    refine h_get (v := .int (gI Gr4 x 9)) 1 9 (C := RX2) (T := TX2) (N := 30) rfl in_X2 (by decide) q1998 (Or.inl rfl) rfl c7 rfl dX2_isHome_23 ?_
    refine g_icmp_ne 33 dX2_isHome_26 (by decide) (fun h8 => ?_) (fun h8 => ?_)
    · have F := F.1 h8
      refine g_iconst (v := 0) dX2_isHome_33 (by decide) ?_
      exact g_zret rfl rfl dX2_isHome_34 F
    · have F := F.2 h8
      refine g_iconst (v := 1) dX2_isHome_29 (by decide) ?_
      refine g_goto 34 dX2_isHome_30 (by decide) ?_
      exact g_zret rfl rfl dX2_isHome_34 F
theorem rX2_pairings_0 {Γ : GE} {l : Launch} {h MC MS : Nat} {Q : Option Value → GH → Prop} {bc bs : Nat} {G : GH} (x : Nat) (p1 : Int32) (F : (gC G x = kO 1 ∧ cI Γ l h mX2_isCrew [.ref x, .int p1] G bc bs fun r1 Gr1 br1 sr1 => ((¬ r1 = 0 → (gC Gr1 x = kO 1 ∧ cV Γ l h mX2_take [.ref x, .int p1] Gr1 br1 sr1 fun Gr4 br4 sr4 => GW Γ l mX2_pairings h MC MS Q 19 [(0, va_rf (some x)), (1, .int p1), (2, .int 0), (3, .int 0)] [] Gr4 br4 sr4)) ∧ (r1 = 0 → (Q (some (.int (-1))) Gr1))))) : GW Γ l mX2_pairings h MC MS Q 0 [(0, va_rf (some x)), (1, .int p1)] [] G bc bs := by
  refine g_aload_n dX2_pairings_0 rfl 0 rfl ?_
  refine g_iload_n dX2_pairings_1 rfl 1 rfl ?_
  obtain ⟨c2, F⟩ := F
  refine h_callVI (ci := 1) (C := RX2) (T := TX2) (N := 30) (As := [.int p1]) (rest := []) F 1 rfl rfl (lw_V q2160 q2162 qs62 q117 q2163) vm_X2_isCrew (by decide) rfl c2 rfl (room_of sc_nil (Nat.le_of_ble_eq_true rfl)) dX2_pairings_2 (fun r1 Gr1 br1 sr1 F => ?_)
  refine g_if_ne 10 dX2_pairings_5 (by decide) (fun h7 => ?_) (fun h7 => ?_)
  · have F := F.1 h7
    refine g_aload_n dX2_pairings_10 rfl 0 rfl ?_
    refine g_iload_n dX2_pairings_11 rfl 1 rfl ?_
    obtain ⟨c5, F⟩ := F
    refine h_callVV (ci := 1) (C := RX2) (T := TX2) (N := 30) (As := [.int p1]) (rest := []) F 1 rfl rfl (lw_V q2168 q2170 qs64 q117 q2171) vm_X2_take (by decide) rfl c5 rfl (room_of sc_nil (Nat.le_of_ble_eq_true rfl)) dX2_pairings_12 (fun Gr4 br4 sr4 F => ?_)
    refine g_iconst (v := 0) dX2_pairings_15 (by decide) ?_
    refine s_istore_n (lv' := [(0, va_rf (some x)), (1, .int p1), (2, .int 0)]) (cat_R (cat_I cat_nil)) dX2_pairings_16 rfl (by decide) rfl [1, 2, 0] rfl ?_
    refine g_iconst (v := 0) dX2_pairings_17 (by decide) ?_
    refine s_istore_n (lv' := [(0, va_rf (some x)), (1, .int p1), (2, .int 0), (3, .int 0)]) (cat_R (cat_I (cat_I cat_nil))) dX2_pairings_18 rfl (by decide) rfl [1, 2, 3, 0] rfl ?_
    exact F
  · have F := F.2 h7
    refine g_iconst (v := (-1)) dX2_pairings_8 (by decide) ?_
    exact g_iret rfl dX2_pairings_9 F
theorem rX2_pairings_19 {Γ : GE} {l : Launch} {h MC MS : Nat} {Q : Option Value → GH → Prop} {bc bs : Nat} {G : GH} (x : Nat) (p1 : Int32) (p2 : Int32) (p3 : Int32) (F : (gC G x = kO 1 ∧ (((gI G x 8) ≤ p3 → (Q (some (.int p2)) G)) ∧ (¬ (gI G x 8) ≤ p3 → (cI Γ l h mX2_legAt [.ref x, .int p3] G bc bs fun r2 Gr2 br2 sr2 => gC Gr2 x = kO 1 ∧ cI Γ l h mX2_of [.ref x, .int r2, .int 1] Gr2 br2 sr2 fun r4 Gr4 br4 sr4 => gC Gr4 x = kO 1 ∧ ((¬ r4 = (gI Gr4 x 9) → (GW Γ l mX2_pairings h MC MS Q 19 [(0, va_rf (some x)), (1, .int p1), (2, .int (p2 + 0)), (3, .int (p3 + 1))] [] Gr4 br4 sr4)) ∧ (r4 = (gI Gr4 x 9) → (((p3 + 1) = (gI Gr4 x 8) → (GW Γ l mX2_pairings h MC MS Q 19 [(0, va_rf (some x)), (1, .int p1), (2, .int (p2 + 1)), (3, .int (p3 + 1))] [] Gr4 br4 sr4)) ∧ (¬ (p3 + 1) = (gI Gr4 x 8) → (cI Γ l h mX2_beginsDuty [.ref x, .int (p3 + 1)] Gr4 br4 sr4 fun r8 Gr8 br8 sr8 => ((r8 = 0 → (GW Γ l mX2_pairings h MC MS Q 19 [(0, va_rf (some x)), (1, .int p1), (2, .int (p2 + 0)), (3, .int (p3 + 1))] [] Gr8 br8 sr8)) ∧ (¬ r8 = 0 → (GW Γ l mX2_pairings h MC MS Q 19 [(0, va_rf (some x)), (1, .int p1), (2, .int (p2 + 1)), (3, .int (p3 + 1))] [] Gr8 br8 sr8))))))))))))) : GW Γ l mX2_pairings h MC MS Q 19 [(0, va_rf (some x)), (1, .int p1), (2, .int p2), (3, .int p3)] [] G bc bs := by
  refine g_iload_n dX2_pairings_19 rfl 3 rfl ?_
  refine g_aload_n dX2_pairings_20 rfl 0 rfl ?_
  obtain ⟨c1, F⟩ := F
  refine h_get (v := .int (gI G x 8)) 1 8 (C := RX2) (T := TX2) (N := 30) rfl in_X2 (by decide) q1997 (Or.inl rfl) rfl c1 rfl dX2_pairings_21 ?_
  refine g_icmp_ge 78 dX2_pairings_24 (by decide) (fun h13 => ?_) (fun h13 => ?_)
  · have F := F.1 h13
    refine g_iload_n dX2_pairings_78 rfl 2 rfl ?_
    exact g_iret rfl dX2_pairings_79 F
  · have F := F.2 h13
    refine g_iload_n dX2_pairings_27 rfl 2 rfl ?_
    refine g_aload_n dX2_pairings_28 rfl 0 rfl ?_
    refine g_aload_n dX2_pairings_29 rfl 0 rfl ?_
    refine g_iload_n dX2_pairings_30 rfl 3 rfl ?_
    refine h_callVI (ci := 1) (C := RX2) (T := TX2) (N := 30) (As := [.int p3]) (rest := [va_rf (some x), .int p2]) F 1 rfl rfl (lw_V q2176 q2178 qs66 q117 q2179) vm_X2_legAt (by decide) rfl c1 rfl (room_of (sc_R (sc_I sc_nil)) (Nat.le_of_ble_eq_true rfl)) dX2_pairings_31 (fun r2 Gr2 br2 sr2 F => ?_)
    refine g_iconst (v := 1) dX2_pairings_34 (by decide) ?_
    obtain ⟨c5, F⟩ := F
    refine h_callVI (ci := 1) (C := RX2) (T := TX2) (N := 30) (As := [.int r2, .int 1]) (rest := [.int p2]) F 2 rfl rfl (lw_V q2093 q2095 qs54 q117 q2096) vm_X2_of (by decide) rfl c5 rfl (room_of (sc_I sc_nil) (Nat.le_of_ble_eq_true rfl)) dX2_pairings_35 (fun r4 Gr4 br4 sr4 F => ?_)
    refine g_aload_n dX2_pairings_38 rfl 0 rfl ?_
    obtain ⟨c7, F⟩ := F
    refine h_get (v := .int (gI Gr4 x 9)) 1 9 (C := RX2) (T := TX2) (N := 30) rfl in_X2 (by decide) q1998 (Or.inl rfl) rfl c7 rfl dX2_pairings_39 ?_
    refine g_icmp_ne 69 dX2_pairings_42 (by decide) (fun h12 => ?_) (fun h12 => ?_)
    · have F := F.1 h12
      refine g_iconst (v := 0) dX2_pairings_69 (by decide) ?_
      refine g_iadd dX2_pairings_70 ?_
      refine s_istore_n (lv' := [(0, va_rf (some x)), (1, .int p1), (2, .int (p2 + 0)), (3, .int p3)]) (cat_R (cat_I (cat_I (cat_I cat_nil)))) dX2_pairings_71 rfl (by decide) rfl [1, 2, 0, 3] rfl ?_
      refine s_iinc (v := (p3 + 1)) (lv' := [(0, va_rf (some x)), (1, .int p1), (2, .int (p2 + 0)), (3, .int (p3 + 1))]) (cat_R (cat_I (cat_I (cat_I cat_nil)))) dX2_pairings_72 (k0 := 3) rfl rfl (by decide) rfl [1, 2, 3, 0] rfl ?_
      refine g_goto 19 dX2_pairings_75 (by decide) ?_
      exact F
    · have F := F.2 h12
      refine g_iload_n dX2_pairings_45 rfl 3 rfl ?_
      refine g_iconst (v := 1) dX2_pairings_46 (by decide) ?_
      refine g_iadd dX2_pairings_47 ?_
      refine g_aload_n dX2_pairings_48 rfl 0 rfl ?_
      refine h_get (v := .int (gI Gr4 x 8)) 1 8 (C := RX2) (T := TX2) (N := 30) rfl in_X2 (by decide) q1997 (Or.inl rfl) rfl c7 rfl dX2_pairings_49 ?_
      refine g_icmp_eq 65 dX2_pairings_52 (by decide) (fun h11 => ?_) (fun h11 => ?_)
      · have F := F.1 h11
        refine g_iconst (v := 1) dX2_pairings_65 (by decide) ?_
        refine g_goto 70 dX2_pairings_66 (by decide) ?_
        refine g_iadd dX2_pairings_70 ?_
        refine s_istore_n (lv' := [(0, va_rf (some x)), (1, .int p1), (2, .int (p2 + 1)), (3, .int p3)]) (cat_R (cat_I (cat_I (cat_I cat_nil)))) dX2_pairings_71 rfl (by decide) rfl [1, 2, 0, 3] rfl ?_
        refine s_iinc (v := (p3 + 1)) (lv' := [(0, va_rf (some x)), (1, .int p1), (2, .int (p2 + 1)), (3, .int (p3 + 1))]) (cat_R (cat_I (cat_I (cat_I cat_nil)))) dX2_pairings_72 (k0 := 3) rfl rfl (by decide) rfl [1, 2, 3, 0] rfl ?_
        refine g_goto 19 dX2_pairings_75 (by decide) ?_
        exact F
      · have F := F.2 h11
        refine g_aload_n dX2_pairings_55 rfl 0 rfl ?_
        refine g_iload_n dX2_pairings_56 rfl 3 rfl ?_
        refine g_iconst (v := 1) dX2_pairings_57 (by decide) ?_
        refine g_iadd dX2_pairings_58 ?_
        refine h_callVI (ci := 1) (C := RX2) (T := TX2) (N := 30) (As := [.int (p3 + 1)]) (rest := [.int p2]) F 1 rfl rfl (lw_V q2196 q2198 qs71 q117 q2199) vm_X2_beginsDuty (by decide) rfl c7 rfl (room_of (sc_I sc_nil) (Nat.le_of_ble_eq_true rfl)) dX2_pairings_59 (fun r8 Gr8 br8 sr8 F => ?_)
        refine g_if_eq 69 dX2_pairings_62 (by decide) (fun h10 => ?_) (fun h10 => ?_)
        · have F := F.1 h10
          refine g_iconst (v := 0) dX2_pairings_69 (by decide) ?_
          refine g_iadd dX2_pairings_70 ?_
          refine s_istore_n (lv' := [(0, va_rf (some x)), (1, .int p1), (2, .int (p2 + 0)), (3, .int p3)]) (cat_R (cat_I (cat_I (cat_I cat_nil)))) dX2_pairings_71 rfl (by decide) rfl [1, 2, 0, 3] rfl ?_
          refine s_iinc (v := (p3 + 1)) (lv' := [(0, va_rf (some x)), (1, .int p1), (2, .int (p2 + 0)), (3, .int (p3 + 1))]) (cat_R (cat_I (cat_I (cat_I cat_nil)))) dX2_pairings_72 (k0 := 3) rfl rfl (by decide) rfl [1, 2, 3, 0] rfl ?_
          refine g_goto 19 dX2_pairings_75 (by decide) ?_
          exact F
        · have F := F.2 h10
          refine g_iconst (v := 1) dX2_pairings_65 (by decide) ?_
          refine g_goto 70 dX2_pairings_66 (by decide) ?_
          refine g_iadd dX2_pairings_70 ?_
          refine s_istore_n (lv' := [(0, va_rf (some x)), (1, .int p1), (2, .int (p2 + 1)), (3, .int p3)]) (cat_R (cat_I (cat_I (cat_I cat_nil)))) dX2_pairings_71 rfl (by decide) rfl [1, 2, 0, 3] rfl ?_
          refine s_iinc (v := (p3 + 1)) (lv' := [(0, va_rf (some x)), (1, .int p1), (2, .int (p2 + 1)), (3, .int (p3 + 1))]) (cat_R (cat_I (cat_I (cat_I cat_nil)))) dX2_pairings_72 (k0 := 3) rfl rfl (by decide) rfl [1, 2, 3, 0] rfl ?_
          refine g_goto 19 dX2_pairings_75 (by decide) ?_
          exact F
theorem rX2_cost_0 {Γ : GE} {l : Launch} {h MC MS : Nat} {Q : Option Value → GH → Prop} {bc bs : Nat} {G : GH} (x : Nat) (p1 : Int32) (p2 : Int32) (F : ((p1 = (-1) → (cI Γ l h mX2_in [.int p2, .int 0, .int 2] G bc bs fun r1 Gr1 br1 sr1 => ((¬ r1 = 0 → (GW Γ l mX2_cost h MC MS Q 29 [(0, va_rf (some x)), (1, .int p1), (2, .int p2), (3, .int 0), (4, .int 0)] [] Gr1 br1 sr1)) ∧ (r1 = 0 → (Q (some (.int (-1))) Gr1))))) ∧ (¬ p1 = (-1) → (gC G x = kO 1 ∧ cI Γ l h mX2_isCrew [.ref x, .int p1] G bc bs fun r4 Gr4 br4 sr4 => ((r4 = 0 → (Q (some (.int (-1))) Gr4)) ∧ (¬ r4 = 0 → (cI Γ l h mX2_in [.int p2, .int 0, .int 2] Gr4 br4 sr4 fun r7 Gr7 br7 sr7 => ((¬ r7 = 0 → (GW Γ l mX2_cost h MC MS Q 29 [(0, va_rf (some x)), (1, .int p1), (2, .int p2), (3, .int 0), (4, .int 0)] [] Gr7 br7 sr7)) ∧ (r7 = 0 → (Q (some (.int (-1))) Gr7)))))))))) : GW Γ l mX2_cost h MC MS Q 0 [(0, va_rf (some x)), (1, .int p1), (2, .int p2)] [] G bc bs := by
  refine g_iload_n dX2_cost_0 rfl 1 rfl ?_
  refine g_iconst (v := (-1)) dX2_cost_1 (by decide) ?_
  refine g_icmp_eq 13 dX2_cost_2 (by decide) (fun h11 => ?_) (fun h11 => ?_)
  · have F := F.1 h11
    refine g_iload_n dX2_cost_13 rfl 2 rfl ?_
    refine g_iconst (v := 0) dX2_cost_14 (by decide) ?_
    refine g_iconst (v := 2) dX2_cost_15 (by decide) ?_
    refine h_callSI (As := [.int p2, .int 0, .int 2]) (rest := []) F 3 rfl (lw_S q2085 q2086 q117 q2087) vm_X2_in.2 (by decide) rfl (room_of sc_nil (Nat.le_of_ble_eq_true rfl)) dX2_cost_16 (fun r1 Gr1 br1 sr1 F => ?_)
    refine g_if_ne 24 dX2_cost_19 (by decide) (fun h3 => ?_) (fun h3 => ?_)
    · have F := F.1 h3
      refine g_iconst (v := 0) dX2_cost_24 (by decide) ?_
      refine s_istore_n (lv' := [(0, va_rf (some x)), (1, .int p1), (2, .int p2), (3, .int 0)]) (cat_R (cat_I (cat_I cat_nil))) dX2_cost_25 rfl (by decide) rfl [1, 2, 3, 0] rfl ?_
      refine g_iconst (v := 0) dX2_cost_26 (by decide) ?_
      refine s_istore (lv' := [(0, va_rf (some x)), (1, .int p1), (2, .int p2), (3, .int 0), (4, .int 0)]) (cat_R (cat_I (cat_I (cat_I cat_nil)))) dX2_cost_27 (by decide) rfl [1, 2, 3, 4, 0] rfl ?_
      exact F
    · have F := F.2 h3
      refine g_iconst (v := (-1)) dX2_cost_22 (by decide) ?_
      exact g_iret rfl dX2_cost_23 F
  · have F := F.2 h11
    refine g_aload_n dX2_cost_5 rfl 0 rfl ?_
    refine g_iload_n dX2_cost_6 rfl 1 rfl ?_
    obtain ⟨c5, F⟩ := F
    refine h_callVI (ci := 1) (C := RX2) (T := TX2) (N := 30) (As := [.int p1]) (rest := []) F 1 rfl rfl (lw_V q2160 q2162 qs62 q117 q2163) vm_X2_isCrew (by decide) rfl c5 rfl (room_of sc_nil (Nat.le_of_ble_eq_true rfl)) dX2_cost_7 (fun r4 Gr4 br4 sr4 F => ?_)
    refine g_if_eq 22 dX2_cost_10 (by decide) (fun h10 => ?_) (fun h10 => ?_)
    · have F := F.1 h10
      refine g_iconst (v := (-1)) dX2_cost_22 (by decide) ?_
      exact g_iret rfl dX2_cost_23 F
    · have F := F.2 h10
      refine g_iload_n dX2_cost_13 rfl 2 rfl ?_
      refine g_iconst (v := 0) dX2_cost_14 (by decide) ?_
      refine g_iconst (v := 2) dX2_cost_15 (by decide) ?_
      refine h_callSI (As := [.int p2, .int 0, .int 2]) (rest := []) F 3 rfl (lw_S q2085 q2086 q117 q2087) vm_X2_in.2 (by decide) rfl (room_of sc_nil (Nat.le_of_ble_eq_true rfl)) dX2_cost_16 (fun r7 Gr7 br7 sr7 F => ?_)
      refine g_if_ne 24 dX2_cost_19 (by decide) (fun h9 => ?_) (fun h9 => ?_)
      · have F := F.1 h9
        refine g_iconst (v := 0) dX2_cost_24 (by decide) ?_
        refine s_istore_n (lv' := [(0, va_rf (some x)), (1, .int p1), (2, .int p2), (3, .int 0)]) (cat_R (cat_I (cat_I cat_nil))) dX2_cost_25 rfl (by decide) rfl [1, 2, 3, 0] rfl ?_
        refine g_iconst (v := 0) dX2_cost_26 (by decide) ?_
        refine s_istore (lv' := [(0, va_rf (some x)), (1, .int p1), (2, .int p2), (3, .int 0), (4, .int 0)]) (cat_R (cat_I (cat_I (cat_I cat_nil)))) dX2_cost_27 (by decide) rfl [1, 2, 3, 4, 0] rfl ?_
        exact F
      · have F := F.2 h9
        refine g_iconst (v := (-1)) dX2_cost_22 (by decide) ?_
        exact g_iret rfl dX2_cost_23 F
theorem rX2_cost_29 {Γ : GE} {l : Launch} {h MC MS : Nat} {Q : Option Value → GH → Prop} {bc bs : Nat} {G : GH} (x : Nat) (p1 : Int32) (p2 : Int32) (p3 : Int32) (p4 : Int32) (F : (gC G x = kO 1 ∧ ∃ a2, (gR G x 0) = some a2 ∧ gC G a2 = kA 0 ∧ vp_in 1 (gL G a2) ∧ (((gI G a2 (1 : Int32).toNatClampNeg) ≤ p4 → (Q (some (.int p3)) G)) ∧ (¬ (gI G a2 (1 : Int32).toNatClampNeg) ≤ p4 → ((p1 = (-1) → (cI Γ l h mX2_costOf [.ref x, .int p4, .int p2] G bc bs fun r6 Gr6 br6 sr6 => GW Γ l mX2_cost h MC MS Q 29 [(0, va_rf (some x)), (1, .int p1), (2, .int p2), (3, .int (p3 + r6)), (4, .int (p4 + 1))] [] Gr6 br6 sr6)) ∧ (¬ p1 = (-1) → ((¬ p1 = p4 → (GW Γ l mX2_cost h MC MS Q 29 [(0, va_rf (some x)), (1, .int p1), (2, .int p2), (3, .int (p3 + 0)), (4, .int (p4 + 1))] [] G bc bs)) ∧ (p1 = p4 → (cI Γ l h mX2_costOf [.ref x, .int p4, .int p2] G bc bs fun r8 Gr8 br8 sr8 => GW Γ l mX2_cost h MC MS Q 29 [(0, va_rf (some x)), (1, .int p1), (2, .int p2), (3, .int (p3 + r8)), (4, .int (p4 + 1))] [] Gr8 br8 sr8))))))))) : GW Γ l mX2_cost h MC MS Q 29 [(0, va_rf (some x)), (1, .int p1), (2, .int p2), (3, .int p3), (4, .int p4)] [] G bc bs := by
  refine g_iload dX2_cost_29 4 rfl ?_
  refine g_aload_n dX2_cost_31 rfl 0 rfl ?_
  obtain ⟨c1, F⟩ := F
  refine h_get (v := va_rf (gR G x 0)) 1 0 (C := RX2) (T := TX2) (N := 30) rfl in_X2 (by decide) q1989 (Or.inl rfl) rfl c1 rfl dX2_cost_32 ?_
  refine g_iconst (v := 1) dX2_cost_35 (by decide) ?_
  obtain ⟨a2, e3, F⟩ := F
  obtain ⟨c4, F⟩ := F
  obtain ⟨k5, F⟩ := F
  refine h_iald e3 c4 k5 dX2_cost_36 ?_
  refine g_icmp_ge 71 dX2_cost_37 (by decide) (fun h12 => ?_) (fun h12 => ?_)
  · have F := F.1 h12
    refine g_iload_n dX2_cost_71 rfl 3 rfl ?_
    exact g_iret rfl dX2_cost_72 F
  · have F := F.2 h12
    refine g_iload_n dX2_cost_40 rfl 3 rfl ?_
    refine g_iload_n dX2_cost_41 rfl 1 rfl ?_
    refine g_iconst (v := (-1)) dX2_cost_42 (by decide) ?_
    refine g_icmp_eq 52 dX2_cost_43 (by decide) (fun h11 => ?_) (fun h11 => ?_)
    · have F := F.1 h11
      refine g_aload_n dX2_cost_52 rfl 0 rfl ?_
      refine g_iload dX2_cost_53 4 rfl ?_
      refine g_iload_n dX2_cost_55 rfl 2 rfl ?_
      refine h_callVI (ci := 1) (C := RX2) (T := TX2) (N := 30) (As := [.int p4, .int p2]) (rest := [.int p3]) F 2 rfl rfl (lw_V q2313 q2315 qs85 q117 q2316) vm_X2_costOf (by decide) rfl c1 rfl (room_of (sc_I sc_nil) (Nat.le_of_ble_eq_true rfl)) dX2_cost_56 (fun r6 Gr6 br6 sr6 F => ?_)
      refine g_goto 63 dX2_cost_59 (by decide) ?_
      refine g_iadd dX2_cost_63 ?_
      refine s_istore_n (lv' := [(0, va_rf (some x)), (1, .int p1), (2, .int p2), (3, .int (p3 + r6)), (4, .int p4)]) (cat_R (cat_I (cat_I (cat_I (cat_I cat_nil))))) dX2_cost_64 rfl (by decide) rfl [1, 2, 3, 0, 4] rfl ?_
      refine s_iinc (v := (p4 + 1)) (lv' := [(0, va_rf (some x)), (1, .int p1), (2, .int p2), (3, .int (p3 + r6)), (4, .int (p4 + 1))]) (cat_R (cat_I (cat_I (cat_I (cat_I cat_nil))))) dX2_cost_65 (k0 := 4) rfl rfl (by decide) rfl [1, 2, 3, 4, 0] rfl ?_
      refine g_goto 29 dX2_cost_68 (by decide) ?_
      exact F
    · have F := F.2 h11
      refine g_iload_n dX2_cost_46 rfl 1 rfl ?_
      refine g_iload dX2_cost_47 4 rfl ?_
      refine g_icmp_ne 62 dX2_cost_49 (by decide) (fun h10 => ?_) (fun h10 => ?_)
      · have F := F.1 h10
        refine g_iconst (v := 0) dX2_cost_62 (by decide) ?_
        refine g_iadd dX2_cost_63 ?_
        refine s_istore_n (lv' := [(0, va_rf (some x)), (1, .int p1), (2, .int p2), (3, .int (p3 + 0)), (4, .int p4)]) (cat_R (cat_I (cat_I (cat_I (cat_I cat_nil))))) dX2_cost_64 rfl (by decide) rfl [1, 2, 3, 0, 4] rfl ?_
        refine s_iinc (v := (p4 + 1)) (lv' := [(0, va_rf (some x)), (1, .int p1), (2, .int p2), (3, .int (p3 + 0)), (4, .int (p4 + 1))]) (cat_R (cat_I (cat_I (cat_I (cat_I cat_nil))))) dX2_cost_65 (k0 := 4) rfl rfl (by decide) rfl [1, 2, 3, 4, 0] rfl ?_
        refine g_goto 29 dX2_cost_68 (by decide) ?_
        exact F
      · have F := F.2 h10
        refine g_aload_n dX2_cost_52 rfl 0 rfl ?_
        refine g_iload dX2_cost_53 4 rfl ?_
        refine g_iload_n dX2_cost_55 rfl 2 rfl ?_
        refine h_callVI (ci := 1) (C := RX2) (T := TX2) (N := 30) (As := [.int p4, .int p2]) (rest := [.int p3]) F 2 rfl rfl (lw_V q2313 q2315 qs85 q117 q2316) vm_X2_costOf (by decide) rfl c1 rfl (room_of (sc_I sc_nil) (Nat.le_of_ble_eq_true rfl)) dX2_cost_56 (fun r8 Gr8 br8 sr8 F => ?_)
        refine g_goto 63 dX2_cost_59 (by decide) ?_
        refine g_iadd dX2_cost_63 ?_
        refine s_istore_n (lv' := [(0, va_rf (some x)), (1, .int p1), (2, .int p2), (3, .int (p3 + r8)), (4, .int p4)]) (cat_R (cat_I (cat_I (cat_I (cat_I cat_nil))))) dX2_cost_64 rfl (by decide) rfl [1, 2, 3, 0, 4] rfl ?_
        refine s_iinc (v := (p4 + 1)) (lv' := [(0, va_rf (some x)), (1, .int p1), (2, .int p2), (3, .int (p3 + r8)), (4, .int (p4 + 1))]) (cat_R (cat_I (cat_I (cat_I (cat_I cat_nil))))) dX2_cost_65 (k0 := 4) rfl rfl (by decide) rfl [1, 2, 3, 4, 0] rfl ?_
        refine g_goto 29 dX2_cost_68 (by decide) ?_
        exact F
theorem rX2_costOf_0 {Γ : GE} {l : Launch} {h MC MS : Nat} {Q : Option Value → GH → Prop} {bc bs : Nat} {G : GH} (x : Nat) (p1 : Int32) (p2 : Int32) (F : (gC G x = kO 1 ∧ cV Γ l h mX2_take [.ref x, .int p1] G bc bs fun Gr1 br1 sr1 => GW Γ l mX2_costOf h MC MS Q 13 [(0, va_rf (some x)), (1, .int p1), (2, .int p2), (3, .int 0), (4, .int 0), (5, .int 0)] [] Gr1 br1 sr1)) : GW Γ l mX2_costOf h MC MS Q 0 [(0, va_rf (some x)), (1, .int p1), (2, .int p2)] [] G bc bs := by
  refine g_aload_n dX2_costOf_0 rfl 0 rfl ?_
  refine g_iload_n dX2_costOf_1 rfl 1 rfl ?_
  obtain ⟨c2, F⟩ := F
  refine h_callVV (ci := 1) (C := RX2) (T := TX2) (N := 30) (As := [.int p1]) (rest := []) F 1 rfl rfl (lw_V q2168 q2170 qs64 q117 q2171) vm_X2_take (by decide) rfl c2 rfl (room_of sc_nil (Nat.le_of_ble_eq_true rfl)) dX2_costOf_2 (fun Gr1 br1 sr1 F => ?_)
  refine g_iconst (v := 0) dX2_costOf_5 (by decide) ?_
  refine s_istore_n (lv' := [(0, va_rf (some x)), (1, .int p1), (2, .int p2), (3, .int 0)]) (cat_R (cat_I (cat_I cat_nil))) dX2_costOf_6 rfl (by decide) rfl [1, 2, 3, 0] rfl ?_
  refine g_iconst (v := 0) dX2_costOf_7 (by decide) ?_
  refine s_istore (lv' := [(0, va_rf (some x)), (1, .int p1), (2, .int p2), (3, .int 0), (4, .int 0)]) (cat_R (cat_I (cat_I (cat_I cat_nil)))) dX2_costOf_8 (by decide) rfl [1, 2, 3, 4, 0] rfl ?_
  refine g_iconst (v := 0) dX2_costOf_10 (by decide) ?_
  refine s_istore (lv' := [(0, va_rf (some x)), (1, .int p1), (2, .int p2), (3, .int 0), (4, .int 0), (5, .int 0)]) (cat_R (cat_I (cat_I (cat_I (cat_I cat_nil))))) dX2_costOf_11 (by decide) rfl [1, 2, 3, 4, 5, 0] rfl ?_
  exact F
theorem rX2_costOf_13 {Γ : GE} {l : Launch} {h MC MS : Nat} {Q : Option Value → GH → Prop} {bc bs : Nat} {G : GH} (x : Nat) (p1 : Int32) (p2 : Int32) (p3 : Int32) (p4 : Int32) (p5 : Int32) (F : (gC G x = kO 1 ∧ (((gI G x 8) ≤ p5 → ((¬ p2 = 0 → ((¬ p2 = 1 → (Q (some (.int (p3 + p4))) G)) ∧ (p2 = 1 → (Q (some (.int p4)) G)))) ∧ (p2 = 0 → (Q (some (.int p3)) G)))) ∧ (¬ (gI G x 8) ≤ p5 → (cI Γ l h mX2_isFlown [.ref x, .int p5] G bc bs fun r4 Gr4 br4 sr4 => ((r4 = 0 → (gC Gr4 x = kO 1 ∧ cI Γ l h mX2_legAt [.ref x, .int p5] Gr4 br4 sr4 fun r6 Gr6 br6 sr6 => gC Gr6 x = kO 1 ∧ cI Γ l h mX2_lengthOf [.ref x, .int r6] Gr6 br6 sr6 fun r9 Gr9 br9 sr9 => gC Gr9 x = kO 1 ∧ ∃ a13, (gR Gr9 x 0) = some a13 ∧ gC Gr9 a13 = kA 0 ∧ vp_in 8 (gL Gr9 a13) ∧ GW Γ l mX2_costOf h MC MS Q 54 [(0, va_rf (some x)), (1, .int p1), (2, .int p2), (3, .int p3), (4, .int p4), (5, .int p5)] [.int (r9 * (gI Gr9 a13 (8 : Int32).toNatClampNeg)), .int p3] Gr9 br9 sr9)) ∧ (¬ r4 = 0 → (GW Γ l mX2_costOf h MC MS Q 54 [(0, va_rf (some x)), (1, .int p1), (2, .int p2), (3, .int p3), (4, .int p4), (5, .int p5)] [.int 0, .int p3] Gr4 br4 sr4)))))))) : GW Γ l mX2_costOf h MC MS Q 13 [(0, va_rf (some x)), (1, .int p1), (2, .int p2), (3, .int p3), (4, .int p4), (5, .int p5)] [] G bc bs := by
  refine g_iload dX2_costOf_13 5 rfl ?_
  refine g_aload_n dX2_costOf_15 rfl 0 rfl ?_
  obtain ⟨c1, F⟩ := F
  refine h_get (v := .int (gI G x 8)) 1 8 (C := RX2) (T := TX2) (N := 30) rfl in_X2 (by decide) q1997 (Or.inl rfl) rfl c1 rfl dX2_costOf_16 ?_
  refine g_icmp_ge 118 dX2_costOf_19 (by decide) (fun h18 => ?_) (fun h18 => ?_)
  · have F := F.1 h18
    refine g_iload_n dX2_costOf_118 rfl 2 rfl ?_
    refine g_if_ne 126 dX2_costOf_119 (by decide) (fun h3 => ?_) (fun h3 => ?_)
    · have F := F.1 h3
      refine g_iload_n dX2_costOf_126 rfl 2 rfl ?_
      refine g_iconst (v := 1) dX2_costOf_127 (by decide) ?_
      refine g_icmp_ne 136 dX2_costOf_128 (by decide) (fun h2 => ?_) (fun h2 => ?_)
      · have F := F.1 h2
        refine g_iload_n dX2_costOf_136 rfl 3 rfl ?_
        refine g_iload dX2_costOf_137 4 rfl ?_
        refine g_iadd dX2_costOf_139 ?_
        exact g_iret rfl dX2_costOf_140 F
      · have F := F.2 h2
        refine g_iload dX2_costOf_131 4 rfl ?_
        refine g_goto 140 dX2_costOf_133 (by decide) ?_
        exact g_iret rfl dX2_costOf_140 F
    · have F := F.2 h3
      refine g_iload_n dX2_costOf_122 rfl 3 rfl ?_
      refine g_goto 140 dX2_costOf_123 (by decide) ?_
      exact g_iret rfl dX2_costOf_140 F
  · have F := F.2 h18
    refine g_iload_n dX2_costOf_22 rfl 3 rfl ?_
    refine g_aload_n dX2_costOf_23 rfl 0 rfl ?_
    refine g_iload dX2_costOf_24 5 rfl ?_
    refine h_callVI (ci := 1) (C := RX2) (T := TX2) (N := 30) (As := [.int p5]) (rest := [.int p3]) F 1 rfl rfl (lw_V q2212 q2214 qs75 q117 q2215) vm_X2_isFlown (by decide) rfl c1 rfl (room_of (sc_I sc_nil) (Nat.le_of_ble_eq_true rfl)) dX2_costOf_26 (fun r4 Gr4 br4 sr4 F => ?_)
    refine g_if_eq 36 dX2_costOf_29 (by decide) (fun h17 => ?_) (fun h17 => ?_)
    · have F := F.1 h17
      refine g_aload_n dX2_costOf_36 rfl 0 rfl ?_
      refine g_aload_n dX2_costOf_37 rfl 0 rfl ?_
      refine g_iload dX2_costOf_38 5 rfl ?_
      obtain ⟨c7, F⟩ := F
      refine h_callVI (ci := 1) (C := RX2) (T := TX2) (N := 30) (As := [.int p5]) (rest := [va_rf (some x), .int p3]) F 1 rfl rfl (lw_V q2176 q2178 qs66 q117 q2179) vm_X2_legAt (by decide) rfl c7 rfl (room_of (sc_R (sc_I sc_nil)) (Nat.le_of_ble_eq_true rfl)) dX2_costOf_40 (fun r6 Gr6 br6 sr6 F => ?_)
      obtain ⟨c10, F⟩ := F
      refine h_callVI (ci := 1) (C := RX2) (T := TX2) (N := 30) (As := [.int r6]) (rest := [.int p3]) F 1 rfl rfl (lw_V q2216 q2218 qs76 q117 q2219) vm_X2_lengthOf (by decide) rfl c10 rfl (room_of (sc_I sc_nil) (Nat.le_of_ble_eq_true rfl)) dX2_costOf_43 (fun r9 Gr9 br9 sr9 F => ?_)
      refine g_aload_n dX2_costOf_46 rfl 0 rfl ?_
      obtain ⟨c12, F⟩ := F
      refine h_get (v := va_rf (gR Gr9 x 0)) 1 0 (C := RX2) (T := TX2) (N := 30) rfl in_X2 (by decide) q1989 (Or.inl rfl) rfl c12 rfl dX2_costOf_47 ?_
      refine g_bipush (v := 8) dX2_costOf_50 (by decide) ?_
      obtain ⟨a13, e14, F⟩ := F
      obtain ⟨c15, F⟩ := F
      obtain ⟨k16, F⟩ := F
      refine h_iald e14 c15 k16 dX2_costOf_52 ?_
      refine g_imul dX2_costOf_53 ?_
      exact F
    · have F := F.2 h17
      refine g_iconst (v := 0) dX2_costOf_32 (by decide) ?_
      refine g_goto 54 dX2_costOf_33 (by decide) ?_
      exact F
theorem rX2_costOf_54 {Γ : GE} {l : Launch} {h MC MS : Nat} {Q : Option Value → GH → Prop} {bc bs : Nat} {G : GH} (x : Nat) (p1 : Int32) (p2 : Int32) (p3 : Int32) (p4 : Int32) (p5 : Int32) (s0 : Int32) (s1 : Int32) (F : (gC G x = kO 1 ∧ (((gI G x 8) ≤ (p5 + 1) → (GW Γ l mX2_costOf h MC MS Q 13 [(0, va_rf (some x)), (1, .int p1), (2, .int p2), (3, .int (s0 + s1)), (4, .int (p4 + 0)), (5, .int (p5 + 1))] [] G bc bs)) ∧ (¬ (gI G x 8) ≤ (p5 + 1) → (cI Γ l h mX2_beginsDuty [.ref x, .int (p5 + 1)] G bc bs fun r2 Gr2 br2 sr2 => ((r2 = 0 → (GW Γ l mX2_costOf h MC MS Q 13 [(0, va_rf (some x)), (1, .int p1), (2, .int p2), (3, .int (s0 + s1)), (4, .int (p4 + 0)), (5, .int (p5 + 1))] [] Gr2 br2 sr2)) ∧ (¬ r2 = 0 → (gC Gr2 x = kO 1 ∧ cI Γ l h mX2_legAt [.ref x, .int p5] Gr2 br2 sr2 fun r4 Gr4 br4 sr4 => gC Gr4 x = kO 1 ∧ cI Γ l h mX2_of [.ref x, .int r4, .int 1] Gr4 br4 sr4 fun r7 Gr7 br7 sr7 => gC Gr7 x = kO 1 ∧ ((r7 = (gI Gr7 x 9) → (GW Γ l mX2_costOf h MC MS Q 13 [(0, va_rf (some x)), (1, .int p1), (2, .int p2), (3, .int (s0 + s1)), (4, .int (p4 + 0)), (5, .int (p5 + 1))] [] Gr7 br7 sr7)) ∧ (¬ r7 = (gI Gr7 x 9) → (∃ a11, (gR Gr7 x 0) = some a11 ∧ gC Gr7 a11 = kA 0 ∧ vp_in 9 (gL Gr7 a11) ∧ GW Γ l mX2_costOf h MC MS Q 13 [(0, va_rf (some x)), (1, .int p1), (2, .int p2), (3, .int (s0 + s1)), (4, .int (p4 + (gI Gr7 a11 (9 : Int32).toNatClampNeg))), (5, .int (p5 + 1))] [] Gr7 br7 sr7))))))))))) : GW Γ l mX2_costOf h MC MS Q 54 [(0, va_rf (some x)), (1, .int p1), (2, .int p2), (3, .int p3), (4, .int p4), (5, .int p5)] [.int s1, .int s0] G bc bs := by
  refine g_iadd dX2_costOf_54 ?_
  refine s_istore_n (lv' := [(0, va_rf (some x)), (1, .int p1), (2, .int p2), (3, .int (s0 + s1)), (4, .int p4), (5, .int p5)]) (cat_R (cat_I (cat_I (cat_I (cat_I (cat_I cat_nil)))))) dX2_costOf_55 rfl (by decide) rfl [1, 2, 3, 0, 4, 5] rfl ?_
  refine g_iload dX2_costOf_56 4 rfl ?_
  refine g_iload dX2_costOf_58 5 rfl ?_
  refine g_iconst (v := 1) dX2_costOf_60 (by decide) ?_
  refine g_iadd dX2_costOf_61 ?_
  refine g_aload_n dX2_costOf_62 rfl 0 rfl ?_
  obtain ⟨c1, F⟩ := F
  refine h_get (v := .int (gI G x 8)) 1 8 (C := RX2) (T := TX2) (N := 30) rfl in_X2 (by decide) q1997 (Or.inl rfl) rfl c1 rfl dX2_costOf_63 ?_
  refine g_icmp_ge 108 dX2_costOf_66 (by decide) (fun h17 => ?_) (fun h17 => ?_)
  · have F := F.1 h17
    refine g_iconst (v := 0) dX2_costOf_108 (by decide) ?_
    refine g_iadd dX2_costOf_109 ?_
    refine s_istore (lv' := [(0, va_rf (some x)), (1, .int p1), (2, .int p2), (3, .int (s0 + s1)), (4, .int (p4 + 0)), (5, .int p5)]) (cat_R (cat_I (cat_I (cat_I (cat_I (cat_I cat_nil)))))) dX2_costOf_110 (by decide) rfl [1, 2, 3, 4, 0, 5] rfl ?_
    refine s_iinc (v := (p5 + 1)) (lv' := [(0, va_rf (some x)), (1, .int p1), (2, .int p2), (3, .int (s0 + s1)), (4, .int (p4 + 0)), (5, .int (p5 + 1))]) (cat_R (cat_I (cat_I (cat_I (cat_I (cat_I cat_nil)))))) dX2_costOf_112 (k0 := 5) rfl rfl (by decide) rfl [1, 2, 3, 4, 5, 0] rfl ?_
    refine g_goto 13 dX2_costOf_115 (by decide) ?_
    exact F
  · have F := F.2 h17
    refine g_aload_n dX2_costOf_69 rfl 0 rfl ?_
    refine g_iload dX2_costOf_70 5 rfl ?_
    refine g_iconst (v := 1) dX2_costOf_72 (by decide) ?_
    refine g_iadd dX2_costOf_73 ?_
    refine h_callVI (ci := 1) (C := RX2) (T := TX2) (N := 30) (As := [.int (p5 + 1)]) (rest := [.int p4]) F 1 rfl rfl (lw_V q2196 q2198 qs71 q117 q2199) vm_X2_beginsDuty (by decide) rfl c1 rfl (room_of (sc_I sc_nil) (Nat.le_of_ble_eq_true rfl)) dX2_costOf_74 (fun r2 Gr2 br2 sr2 F => ?_)
    refine g_if_eq 108 dX2_costOf_77 (by decide) (fun h16 => ?_) (fun h16 => ?_)
    · have F := F.1 h16
      refine g_iconst (v := 0) dX2_costOf_108 (by decide) ?_
      refine g_iadd dX2_costOf_109 ?_
      refine s_istore (lv' := [(0, va_rf (some x)), (1, .int p1), (2, .int p2), (3, .int (s0 + s1)), (4, .int (p4 + 0)), (5, .int p5)]) (cat_R (cat_I (cat_I (cat_I (cat_I (cat_I cat_nil)))))) dX2_costOf_110 (by decide) rfl [1, 2, 3, 4, 0, 5] rfl ?_
      refine s_iinc (v := (p5 + 1)) (lv' := [(0, va_rf (some x)), (1, .int p1), (2, .int p2), (3, .int (s0 + s1)), (4, .int (p4 + 0)), (5, .int (p5 + 1))]) (cat_R (cat_I (cat_I (cat_I (cat_I (cat_I cat_nil)))))) dX2_costOf_112 (k0 := 5) rfl rfl (by decide) rfl [1, 2, 3, 4, 5, 0] rfl ?_
      refine g_goto 13 dX2_costOf_115 (by decide) ?_
      exact F
    · have F := F.2 h16
      refine g_aload_n dX2_costOf_80 rfl 0 rfl ?_
      refine g_aload_n dX2_costOf_81 rfl 0 rfl ?_
      refine g_iload dX2_costOf_82 5 rfl ?_
      obtain ⟨c5, F⟩ := F
      refine h_callVI (ci := 1) (C := RX2) (T := TX2) (N := 30) (As := [.int p5]) (rest := [va_rf (some x), .int p4]) F 1 rfl rfl (lw_V q2176 q2178 qs66 q117 q2179) vm_X2_legAt (by decide) rfl c5 rfl (room_of (sc_R (sc_I sc_nil)) (Nat.le_of_ble_eq_true rfl)) dX2_costOf_84 (fun r4 Gr4 br4 sr4 F => ?_)
      refine g_iconst (v := 1) dX2_costOf_87 (by decide) ?_
      obtain ⟨c8, F⟩ := F
      refine h_callVI (ci := 1) (C := RX2) (T := TX2) (N := 30) (As := [.int r4, .int 1]) (rest := [.int p4]) F 2 rfl rfl (lw_V q2093 q2095 qs54 q117 q2096) vm_X2_of (by decide) rfl c8 rfl (room_of (sc_I sc_nil) (Nat.le_of_ble_eq_true rfl)) dX2_costOf_88 (fun r7 Gr7 br7 sr7 F => ?_)
      refine g_aload_n dX2_costOf_91 rfl 0 rfl ?_
      obtain ⟨c10, F⟩ := F
      refine h_get (v := .int (gI Gr7 x 9)) 1 9 (C := RX2) (T := TX2) (N := 30) rfl in_X2 (by decide) q1998 (Or.inl rfl) rfl c10 rfl dX2_costOf_92 ?_
      refine g_icmp_eq 108 dX2_costOf_95 (by decide) (fun h15 => ?_) (fun h15 => ?_)
      · have F := F.1 h15
        refine g_iconst (v := 0) dX2_costOf_108 (by decide) ?_
        refine g_iadd dX2_costOf_109 ?_
        refine s_istore (lv' := [(0, va_rf (some x)), (1, .int p1), (2, .int p2), (3, .int (s0 + s1)), (4, .int (p4 + 0)), (5, .int p5)]) (cat_R (cat_I (cat_I (cat_I (cat_I (cat_I cat_nil)))))) dX2_costOf_110 (by decide) rfl [1, 2, 3, 4, 0, 5] rfl ?_
        refine s_iinc (v := (p5 + 1)) (lv' := [(0, va_rf (some x)), (1, .int p1), (2, .int p2), (3, .int (s0 + s1)), (4, .int (p4 + 0)), (5, .int (p5 + 1))]) (cat_R (cat_I (cat_I (cat_I (cat_I (cat_I cat_nil)))))) dX2_costOf_112 (k0 := 5) rfl rfl (by decide) rfl [1, 2, 3, 4, 5, 0] rfl ?_
        refine g_goto 13 dX2_costOf_115 (by decide) ?_
        exact F
      · have F := F.2 h15
        refine g_aload_n dX2_costOf_98 rfl 0 rfl ?_
        refine h_get (v := va_rf (gR Gr7 x 0)) 1 0 (C := RX2) (T := TX2) (N := 30) rfl in_X2 (by decide) q1989 (Or.inl rfl) rfl c10 rfl dX2_costOf_99 ?_
        refine g_bipush (v := 9) dX2_costOf_102 (by decide) ?_
        obtain ⟨a11, e12, F⟩ := F
        obtain ⟨c13, F⟩ := F
        obtain ⟨k14, F⟩ := F
        refine h_iald e12 c13 k14 dX2_costOf_104 ?_
        refine g_goto 109 dX2_costOf_105 (by decide) ?_
        refine g_iadd dX2_costOf_109 ?_
        refine s_istore (lv' := [(0, va_rf (some x)), (1, .int p1), (2, .int p2), (3, .int (s0 + s1)), (4, .int (p4 + (gI Gr7 a11 (9 : Int32).toNatClampNeg))), (5, .int p5)]) (cat_R (cat_I (cat_I (cat_I (cat_I (cat_I cat_nil)))))) dX2_costOf_110 (by decide) rfl [1, 2, 3, 4, 0, 5] rfl ?_
        refine s_iinc (v := (p5 + 1)) (lv' := [(0, va_rf (some x)), (1, .int p1), (2, .int p2), (3, .int (s0 + s1)), (4, .int (p4 + (gI Gr7 a11 (9 : Int32).toNatClampNeg))), (5, .int (p5 + 1))]) (cat_R (cat_I (cat_I (cat_I (cat_I (cat_I cat_nil)))))) dX2_costOf_112 (k0 := 5) rfl rfl (by decide) rfl [1, 2, 3, 4, 5, 0] rfl ?_
        refine g_goto 13 dX2_costOf_115 (by decide) ?_
        exact F
theorem rX2_openCount_0 {Γ : GE} {l : Launch} {h MC MS : Nat} {Q : Option Value → GH → Prop} {bc bs : Nat} {G : GH} (x : Nat) (F : (gC G x = kO 1 ∧ cV Γ l h mX2_findOpen [.ref x] G bc bs fun Gr1 br1 sr1 => gC Gr1 x = kO 1 ∧ Q (some (.int (gI Gr1 x 11))) Gr1)) : GW Γ l mX2_openCount h MC MS Q 0 [(0, va_rf (some x))] [] G bc bs := by
  refine g_aload_n dX2_openCount_0 rfl 0 rfl ?_
  obtain ⟨c2, F⟩ := F
  refine h_callVV (ci := 1) (C := RX2) (T := TX2) (N := 30) (As := []) (rest := []) F 0 rfl rfl (lw_V q2321 q2323 qs86 q117 q2324) vm_X2_findOpen (by decide) rfl c2 rfl (room_of sc_nil (Nat.le_of_ble_eq_true rfl)) dX2_openCount_1 (fun Gr1 br1 sr1 F => ?_)
  refine g_aload_n dX2_openCount_4 rfl 0 rfl ?_
  obtain ⟨c4, F⟩ := F
  refine h_get (v := .int (gI Gr1 x 11)) 1 11 (C := RX2) (T := TX2) (N := 30) rfl in_X2 (by decide) q2000 (Or.inl rfl) rfl c4 rfl dX2_openCount_5 ?_
  exact g_iret rfl dX2_openCount_8 F
theorem rX2_findOpen_0 {Γ : GE} {l : Launch} {h MC MS : Nat} {Q : Option Value → GH → Prop} {bc bs : Nat} {G : GH} (x : Nat) (F : (gC G x = kO 1 ∧ gM G x = true ∧ GW Γ l mX2_findOpen h MC MS Q 7 [(0, va_rf (some x)), (1, .int 0)] [] (sI G x 11 0) bc bs)) : GW Γ l mX2_findOpen h MC MS Q 0 [(0, va_rf (some x))] [] G bc bs := by
  refine g_aload_n dX2_findOpen_0 rfl 0 rfl ?_
  refine g_iconst (v := 0) dX2_findOpen_1 (by decide) ?_
  obtain ⟨c1, F⟩ := F
  obtain ⟨m2, F⟩ := F
  refine h_putI (mi := mX2_findOpen) 1 11 (C := RX2) (T := TX2) (N := 30) rfl in_X2 tyX2_ok nmX2 (by decide) q2000 (Or.inl rfl) (Or.inl rfl) rfl rfl c1 m2 rfl rfl dX2_findOpen_2 ?_
  refine g_iconst (v := 0) dX2_findOpen_5 (by decide) ?_
  refine s_istore_n (lv' := [(0, va_rf (some x)), (1, .int 0)]) (cat_R cat_nil) dX2_findOpen_6 rfl (by decide) rfl [1, 0] rfl ?_
  exact F
theorem rX2_findOpen_7 {Γ : GE} {l : Launch} {h MC MS : Nat} {Q : Option Value → GH → Prop} {bc bs : Nat} {G : GH} (x : Nat) (p1 : Int32) (F : (gC G x = kO 1 ∧ ∃ a2, (gR G x 0) = some a2 ∧ gC G a2 = kA 0 ∧ vp_in 0 (gL G a2) ∧ (((gI G a2 (0 : Int32).toNatClampNeg) ≤ p1 → (Q none G)) ∧ (¬ (gI G a2 (0 : Int32).toNatClampNeg) ≤ p1 → (cI Γ l h mX2_isOpen [.ref x, .int p1] G bc bs fun r6 Gr6 br6 sr6 => ((r6 = 0 → (GW Γ l mX2_findOpen h MC MS Q 7 [(0, va_rf (some x)), (1, .int (p1 + 1))] [] Gr6 br6 sr6)) ∧ (¬ r6 = 0 → (gC Gr6 x = kO 1 ∧ GW Γ l mX2_findOpen h MC MS Q 30 [(0, va_rf (some x)), (1, .int p1), (2, .int (gI Gr6 x 11))] [] Gr6 br6 sr6)))))))) : GW Γ l mX2_findOpen h MC MS Q 7 [(0, va_rf (some x)), (1, .int p1)] [] G bc bs := by
  refine g_iload_n dX2_findOpen_7 rfl 1 rfl ?_
  refine g_aload_n dX2_findOpen_8 rfl 0 rfl ?_
  obtain ⟨c1, F⟩ := F
  refine h_get (v := va_rf (gR G x 0)) 1 0 (C := RX2) (T := TX2) (N := 30) rfl in_X2 (by decide) q1989 (Or.inl rfl) rfl c1 rfl dX2_findOpen_9 ?_
  refine g_iconst (v := 0) dX2_findOpen_12 (by decide) ?_
  obtain ⟨a2, e3, F⟩ := F
  obtain ⟨c4, F⟩ := F
  obtain ⟨k5, F⟩ := F
  refine h_iald e3 c4 k5 dX2_findOpen_13 ?_
  refine g_icmp_ge 99 dX2_findOpen_14 (by decide) (fun h10 => ?_) (fun h10 => ?_)
  · have F := F.1 h10
    exact g_vret rfl dX2_findOpen_99 F
  · have F := F.2 h10
    refine g_aload_n dX2_findOpen_17 rfl 0 rfl ?_
    refine g_iload_n dX2_findOpen_18 rfl 1 rfl ?_
    refine h_callVI (ci := 1) (C := RX2) (T := TX2) (N := 30) (As := [.int p1]) (rest := []) F 1 rfl rfl (lw_V q2325 q2327 qs87 q117 q2328) vm_X2_isOpen (by decide) rfl c1 rfl (room_of sc_nil (Nat.le_of_ble_eq_true rfl)) dX2_findOpen_19 (fun r6 Gr6 br6 sr6 F => ?_)
    refine g_if_eq 93 dX2_findOpen_22 (by decide) (fun h9 => ?_) (fun h9 => ?_)
    · have F := F.1 h9
      refine s_iinc (v := (p1 + 1)) (lv' := [(0, va_rf (some x)), (1, .int (p1 + 1))]) (cat_R (cat_I cat_nil)) dX2_findOpen_93 (k0 := 1) rfl rfl (by decide) rfl [1, 0] rfl ?_
      refine g_goto 7 dX2_findOpen_96 (by decide) ?_
      exact F
    · have F := F.2 h9
      refine g_aload_n dX2_findOpen_25 rfl 0 rfl ?_
      obtain ⟨c8, F⟩ := F
      refine h_get (v := .int (gI Gr6 x 11)) 1 11 (C := RX2) (T := TX2) (N := 30) rfl in_X2 (by decide) q2000 (Or.inl rfl) rfl c8 rfl dX2_findOpen_26 ?_
      refine s_istore_n (lv' := [(0, va_rf (some x)), (1, .int p1), (2, .int (gI Gr6 x 11))]) (cat_R (cat_I cat_nil)) dX2_findOpen_29 rfl (by decide) rfl [1, 2, 0] rfl ?_
      exact F
theorem rX2_findOpen_30 {Γ : GE} {l : Launch} {h MC MS : Nat} {Q : Option Value → GH → Prop} {bc bs : Nat} {G : GH} (x : Nat) (p1 : Int32) (p2 : Int32) (F : ((p2 ≤ 0 → (gC G x = kO 1 ∧ ∃ a2, (gR G x 10) = some a2 ∧ gC G a2 = kA 0 ∧ gM G a2 = true ∧ vp_in p2 (gL G a2) ∧ gM (sI G a2 p2.toNatClampNeg p1) x = true ∧ GW Γ l mX2_findOpen h MC MS Q 7 [(0, va_rf (some x)), (1, .int (p1 + 1))] [] (sI (sI G a2 p2.toNatClampNeg p1) x 11 ((gI (sI G a2 p2.toNatClampNeg p1) x 11) + 1)) bc bs)) ∧ (¬ p2 ≤ 0 → (gC G x = kO 1 ∧ ∃ a9, (gR G x 10) = some a9 ∧ gC G a9 = kA 0 ∧ vp_in (p2 - 1) (gL G a9) ∧ cI Γ l h mX2_of [.ref x, .int (gI G a9 (p2 - 1).toNatClampNeg), .int 2] G bc bs fun r13 Gr13 br13 sr13 => gC Gr13 x = kO 1 ∧ cI Γ l h mX2_of [.ref x, .int p1, .int 2] Gr13 br13 sr13 fun r15 Gr15 br15 sr15 => ((r13 ≤ r15 → (gC Gr15 x = kO 1 ∧ ∃ a19, (gR Gr15 x 10) = some a19 ∧ gC Gr15 a19 = kA 0 ∧ gM Gr15 a19 = true ∧ vp_in p2 (gL Gr15 a19) ∧ gM (sI Gr15 a19 p2.toNatClampNeg p1) x = true ∧ GW Γ l mX2_findOpen h MC MS Q 7 [(0, va_rf (some x)), (1, .int (p1 + 1))] [] (sI (sI Gr15 a19 p2.toNatClampNeg p1) x 11 ((gI (sI Gr15 a19 p2.toNatClampNeg p1) x 11) + 1)) br15 sr15)) ∧ (¬ r13 ≤ r15 → (gC Gr15 x = kO 1 ∧ ∃ a26, (gR Gr15 x 10) = some a26 ∧ gC Gr15 a26 = kA 0 ∧ vp_in (p2 - 1) (gL Gr15 a26) ∧ gM Gr15 a26 = true ∧ vp_in p2 (gL Gr15 a26) ∧ GW Γ l mX2_findOpen h MC MS Q 30 [(0, va_rf (some x)), (1, .int p1), (2, .int (p2 + (-1)))] [] (sI Gr15 a26 p2.toNatClampNeg (gI Gr15 a26 (p2 - 1).toNatClampNeg)) br15 sr15))))))) : GW Γ l mX2_findOpen h MC MS Q 30 [(0, va_rf (some x)), (1, .int p1), (2, .int p2)] [] G bc bs := by
  refine g_iload_n dX2_findOpen_30 rfl 2 rfl ?_
  refine g_if_le 76 dX2_findOpen_31 (by decide) (fun h33 => ?_) (fun h33 => ?_)
  · have F := F.1 h33
    refine g_aload_n dX2_findOpen_76 rfl 0 rfl ?_
    obtain ⟨c1, F⟩ := F
    refine h_get (v := va_rf (gR G x 10)) 1 10 (C := RX2) (T := TX2) (N := 30) rfl in_X2 (by decide) q1999 (Or.inl rfl) rfl c1 rfl dX2_findOpen_77 ?_
    refine g_iload_n dX2_findOpen_80 rfl 2 rfl ?_
    refine g_iload_n dX2_findOpen_81 rfl 1 rfl ?_
    obtain ⟨a2, e3, F⟩ := F
    obtain ⟨c4, F⟩ := F
    obtain ⟨m5, F⟩ := F
    obtain ⟨k6, F⟩ := F
    refine h_iast e3 c4 m5 k6 dX2_findOpen_82 ?_
    refine g_aload_n dX2_findOpen_83 rfl 0 rfl ?_
    refine g_dup dX2_findOpen_84 (va_rf_cat _) ?_
    refine h_get (v := .int (gI (sI G a2 p2.toNatClampNeg p1) x 11)) 1 11 (C := RX2) (T := TX2) (N := 30) rfl in_X2 (by decide) q2000 (Or.inl rfl) rfl c1 rfl dX2_findOpen_85 ?_
    refine g_iconst (v := 1) dX2_findOpen_88 (by decide) ?_
    refine g_iadd dX2_findOpen_89 ?_
    obtain ⟨m7, F⟩ := F
    refine h_putI (mi := mX2_findOpen) 1 11 (C := RX2) (T := TX2) (N := 30) rfl in_X2 tyX2_ok nmX2 (by decide) q2000 (Or.inl rfl) (Or.inl rfl) rfl rfl c1 m7 rfl rfl dX2_findOpen_90 ?_
    refine s_iinc (v := (p1 + 1)) (lv' := [(0, va_rf (some x)), (1, .int (p1 + 1)), (2, .int p2)]) (cat_R (cat_I (cat_I cat_nil))) dX2_findOpen_93 (k0 := 1) rfl rfl (by decide) rfl [1, 0, 2] rfl ?_
    refine g_goto 7 dX2_findOpen_96 (by decide) ?_
    refine GW.lsub (lv' := [(0, va_rf (some x)), (1, .int (p1 + 1))]) [0, 1] rfl ?_
    exact F
  · have F := F.2 h33
    refine g_aload_n dX2_findOpen_34 rfl 0 rfl ?_
    refine g_aload_n dX2_findOpen_35 rfl 0 rfl ?_
    obtain ⟨c8, F⟩ := F
    refine h_get (v := va_rf (gR G x 10)) 1 10 (C := RX2) (T := TX2) (N := 30) rfl in_X2 (by decide) q1999 (Or.inl rfl) rfl c8 rfl dX2_findOpen_36 ?_
    refine g_iload_n dX2_findOpen_39 rfl 2 rfl ?_
    refine g_iconst (v := 1) dX2_findOpen_40 (by decide) ?_
    refine g_isub dX2_findOpen_41 ?_
    obtain ⟨a9, e10, F⟩ := F
    obtain ⟨c11, F⟩ := F
    obtain ⟨k12, F⟩ := F
    refine h_iald e10 c11 k12 dX2_findOpen_42 ?_
    refine g_iconst (v := 2) dX2_findOpen_43 (by decide) ?_
    refine h_callVI (ci := 1) (C := RX2) (T := TX2) (N := 30) (As := [.int (gI G a9 (p2 - 1).toNatClampNeg), .int 2]) (rest := []) F 2 rfl rfl (lw_V q2093 q2095 qs54 q117 q2096) vm_X2_of (by decide) rfl c8 rfl (room_of sc_nil (Nat.le_of_ble_eq_true rfl)) dX2_findOpen_44 (fun r13 Gr13 br13 sr13 F => ?_)
    refine g_aload_n dX2_findOpen_47 rfl 0 rfl ?_
    refine g_iload_n dX2_findOpen_48 rfl 1 rfl ?_
    refine g_iconst (v := 2) dX2_findOpen_49 (by decide) ?_
    obtain ⟨c16, F⟩ := F
    refine h_callVI (ci := 1) (C := RX2) (T := TX2) (N := 30) (As := [.int p1, .int 2]) (rest := [.int r13]) F 2 rfl rfl (lw_V q2093 q2095 qs54 q117 q2096) vm_X2_of (by decide) rfl c16 rfl (room_of (sc_I sc_nil) (Nat.le_of_ble_eq_true rfl)) dX2_findOpen_50 (fun r15 Gr15 br15 sr15 F => ?_)
    refine g_icmp_le 76 dX2_findOpen_53 (by decide) (fun h32 => ?_) (fun h32 => ?_)
    · have F := F.1 h32
      refine g_aload_n dX2_findOpen_76 rfl 0 rfl ?_
      obtain ⟨c18, F⟩ := F
      refine h_get (v := va_rf (gR Gr15 x 10)) 1 10 (C := RX2) (T := TX2) (N := 30) rfl in_X2 (by decide) q1999 (Or.inl rfl) rfl c18 rfl dX2_findOpen_77 ?_
      refine g_iload_n dX2_findOpen_80 rfl 2 rfl ?_
      refine g_iload_n dX2_findOpen_81 rfl 1 rfl ?_
      obtain ⟨a19, e20, F⟩ := F
      obtain ⟨c21, F⟩ := F
      obtain ⟨m22, F⟩ := F
      obtain ⟨k23, F⟩ := F
      refine h_iast e20 c21 m22 k23 dX2_findOpen_82 ?_
      refine g_aload_n dX2_findOpen_83 rfl 0 rfl ?_
      refine g_dup dX2_findOpen_84 (va_rf_cat _) ?_
      refine h_get (v := .int (gI (sI Gr15 a19 p2.toNatClampNeg p1) x 11)) 1 11 (C := RX2) (T := TX2) (N := 30) rfl in_X2 (by decide) q2000 (Or.inl rfl) rfl c18 rfl dX2_findOpen_85 ?_
      refine g_iconst (v := 1) dX2_findOpen_88 (by decide) ?_
      refine g_iadd dX2_findOpen_89 ?_
      obtain ⟨m24, F⟩ := F
      refine h_putI (mi := mX2_findOpen) 1 11 (C := RX2) (T := TX2) (N := 30) rfl in_X2 tyX2_ok nmX2 (by decide) q2000 (Or.inl rfl) (Or.inl rfl) rfl rfl c18 m24 rfl rfl dX2_findOpen_90 ?_
      refine s_iinc (v := (p1 + 1)) (lv' := [(0, va_rf (some x)), (1, .int (p1 + 1)), (2, .int p2)]) (cat_R (cat_I (cat_I cat_nil))) dX2_findOpen_93 (k0 := 1) rfl rfl (by decide) rfl [1, 0, 2] rfl ?_
      refine g_goto 7 dX2_findOpen_96 (by decide) ?_
      refine GW.lsub (lv' := [(0, va_rf (some x)), (1, .int (p1 + 1))]) [0, 1] rfl ?_
      exact F
    · have F := F.2 h32
      refine g_aload_n dX2_findOpen_56 rfl 0 rfl ?_
      obtain ⟨c25, F⟩ := F
      refine h_get (v := va_rf (gR Gr15 x 10)) 1 10 (C := RX2) (T := TX2) (N := 30) rfl in_X2 (by decide) q1999 (Or.inl rfl) rfl c25 rfl dX2_findOpen_57 ?_
      refine g_iload_n dX2_findOpen_60 rfl 2 rfl ?_
      refine g_aload_n dX2_findOpen_61 rfl 0 rfl ?_
      refine h_get (v := va_rf (gR Gr15 x 10)) 1 10 (C := RX2) (T := TX2) (N := 30) rfl in_X2 (by decide) q1999 (Or.inl rfl) rfl c25 rfl dX2_findOpen_62 ?_
      refine g_iload_n dX2_findOpen_65 rfl 2 rfl ?_
      refine g_iconst (v := 1) dX2_findOpen_66 (by decide) ?_
      refine g_isub dX2_findOpen_67 ?_
      obtain ⟨a26, e27, F⟩ := F
      obtain ⟨c28, F⟩ := F
      obtain ⟨k29, F⟩ := F
      refine h_iald e27 c28 k29 dX2_findOpen_68 ?_
      obtain ⟨m30, F⟩ := F
      obtain ⟨k31, F⟩ := F
      refine h_iast e27 c28 m30 k31 dX2_findOpen_69 ?_
      refine s_iinc (v := (p2 + (-1))) (lv' := [(0, va_rf (some x)), (1, .int p1), (2, .int (p2 + (-1)))]) (cat_R (cat_I (cat_I cat_nil))) dX2_findOpen_70 (k0 := 2) rfl rfl (by decide) rfl [1, 2, 0] rfl ?_
      refine g_goto 30 dX2_findOpen_73 (by decide) ?_
      exact F
theorem rX2_isOpen_0 {Γ : GE} {l : Launch} {h MC MS : Nat} {Q : Option Value → GH → Prop} {bc bs : Nat} {G : GH} (x : Nat) (p1 : Int32) (F : (gC G x = kO 1 ∧ cI Γ l h mX2_of [.ref x, .int p1, .int 4] G bc bs fun r1 Gr1 br1 sr1 => ((¬ r1 = 0 → (Q (some (.int 0)) Gr1)) ∧ (r1 = 0 → (gC Gr1 x = kO 1 ∧ cI Γ l h mX2_flierOf [.ref x, .int p1] Gr1 br1 sr1 fun r4 Gr4 br4 sr4 => (((0 : Int32) ≤ r4 → (Q (some (.int 0)) Gr4)) ∧ (¬ (0 : Int32) ≤ r4 → (Q (some (.int 1)) Gr4)))))))) : GW Γ l mX2_isOpen h MC MS Q 0 [(0, va_rf (some x)), (1, .int p1)] [] G bc bs := by
  refine g_aload_n dX2_isOpen_0 rfl 0 rfl ?_
  refine g_iload_n dX2_isOpen_1 rfl 1 rfl ?_
  refine g_iconst (v := 4) dX2_isOpen_2 (by decide) ?_
  obtain ⟨c2, F⟩ := F
  refine h_callVI (ci := 1) (C := RX2) (T := TX2) (N := 30) (As := [.int p1, .int 4]) (rest := []) F 2 rfl rfl (lw_V q2093 q2095 qs54 q117 q2096) vm_X2_of (by decide) rfl c2 rfl (room_of sc_nil (Nat.le_of_ble_eq_true rfl)) dX2_isOpen_3 (fun r1 Gr1 br1 sr1 F => ?_)
  refine g_if_ne 21 dX2_isOpen_6 (by decide) (fun h8 => ?_) (fun h8 => ?_)
  · have F := F.1 h8
    refine g_iconst (v := 0) dX2_isOpen_21 (by decide) ?_
    exact g_zret rfl rfl dX2_isOpen_22 F
  · have F := F.2 h8
    refine g_aload_n dX2_isOpen_9 rfl 0 rfl ?_
    refine g_iload_n dX2_isOpen_10 rfl 1 rfl ?_
    obtain ⟨c5, F⟩ := F
    refine h_callVI (ci := 1) (C := RX2) (T := TX2) (N := 30) (As := [.int p1]) (rest := []) F 1 rfl rfl (lw_V q2128 q2130 qs58 q117 q2131) vm_X2_flierOf (by decide) rfl c5 rfl (room_of sc_nil (Nat.le_of_ble_eq_true rfl)) dX2_isOpen_11 (fun r4 Gr4 br4 sr4 F => ?_)
    refine g_if_ge 21 dX2_isOpen_14 (by decide) (fun h7 => ?_) (fun h7 => ?_)
    · have F := F.1 h7
      refine g_iconst (v := 0) dX2_isOpen_21 (by decide) ?_
      exact g_zret rfl rfl dX2_isOpen_22 F
    · have F := F.2 h7
      refine g_iconst (v := 1) dX2_isOpen_17 (by decide) ?_
      refine g_goto 22 dX2_isOpen_18 (by decide) ?_
      exact g_zret rfl rfl dX2_isOpen_22 F
theorem rX2_open_0 {Γ : GE} {l : Launch} {h MC MS : Nat} {Q : Option Value → GH → Prop} {bc bs : Nat} {G : GH} (x : Nat) (p1 : Int32) (F : (gC G x = kO 1 ∧ cV Γ l h mX2_findOpen [.ref x] G bc bs fun Gr1 br1 sr1 => gC Gr1 x = kO 1 ∧ cI Γ l h mX2_in [.int p1, .int 0, .int ((gI Gr1 x 11) - 1)] Gr1 br1 sr1 fun r5 Gr5 br5 sr5 => ((r5 = 0 → (Q (some (.int (-2))) Gr5)) ∧ (¬ r5 = 0 → (gC Gr5 x = kO 1 ∧ ∃ a8, (gR Gr5 x 10) = some a8 ∧ gC Gr5 a8 = kA 0 ∧ vp_in p1 (gL Gr5 a8) ∧ Q (some (.int (gI Gr5 a8 p1.toNatClampNeg))) Gr5))))) : GW Γ l mX2_open h MC MS Q 0 [(0, va_rf (some x)), (1, .int p1)] [] G bc bs := by
  refine g_aload_n dX2_open_0 rfl 0 rfl ?_
  obtain ⟨c2, F⟩ := F
  refine h_callVV (ci := 1) (C := RX2) (T := TX2) (N := 30) (As := []) (rest := []) F 0 rfl rfl (lw_V q2321 q2323 qs86 q117 q2324) vm_X2_findOpen (by decide) rfl c2 rfl (room_of sc_nil (Nat.le_of_ble_eq_true rfl)) dX2_open_1 (fun Gr1 br1 sr1 F => ?_)
  refine g_iload_n dX2_open_4 rfl 1 rfl ?_
  refine g_iconst (v := 0) dX2_open_5 (by decide) ?_
  refine g_aload_n dX2_open_6 rfl 0 rfl ?_
  obtain ⟨c4, F⟩ := F
  refine h_get (v := .int (gI Gr1 x 11)) 1 11 (C := RX2) (T := TX2) (N := 30) rfl in_X2 (by decide) q2000 (Or.inl rfl) rfl c4 rfl dX2_open_7 ?_
  refine g_iconst (v := 1) dX2_open_10 (by decide) ?_
  refine g_isub dX2_open_11 ?_
  refine h_callSI (As := [.int p1, .int 0, .int ((gI Gr1 x 11) - 1)]) (rest := []) F 3 rfl (lw_S q2085 q2086 q117 q2087) vm_X2_in.2 (by decide) rfl (room_of sc_nil (Nat.le_of_ble_eq_true rfl)) dX2_open_12 (fun r5 Gr5 br5 sr5 F => ?_)
  refine g_if_eq 27 dX2_open_15 (by decide) (fun h12 => ?_) (fun h12 => ?_)
  · have F := F.1 h12
    refine g_bipush (v := (-2)) dX2_open_27 (by decide) ?_
    exact g_iret rfl dX2_open_29 F
  · have F := F.2 h12
    refine g_aload_n dX2_open_18 rfl 0 rfl ?_
    obtain ⟨c7, F⟩ := F
    refine h_get (v := va_rf (gR Gr5 x 10)) 1 10 (C := RX2) (T := TX2) (N := 30) rfl in_X2 (by decide) q1999 (Or.inl rfl) rfl c7 rfl dX2_open_19 ?_
    refine g_iload_n dX2_open_22 rfl 1 rfl ?_
    obtain ⟨a8, e9, F⟩ := F
    obtain ⟨c10, F⟩ := F
    obtain ⟨k11, F⟩ := F
    refine h_iald e9 c10 k11 dX2_open_23 ?_
    refine g_goto 29 dX2_open_24 (by decide) ?_
    exact g_iret rfl dX2_open_29 F
theorem rX2_delay_0 {Γ : GE} {l : Launch} {h MC MS : Nat} {Q : Option Value → GH → Prop} {bc bs : Nat} {G : GH} (x : Nat) (p1 : Int32) (p2 : Int32) (F : (gC G x = kO 1 ∧ cI Γ l h mX2_isLeg [.ref x, .int p1] G bc bs fun r1 Gr1 br1 sr1 => ((r1 = 0 → (Q (some (.int (-1))) Gr1)) ∧ (¬ r1 = 0 → (cI Γ l h mX2_in [.int p2, .int (-600), .int 600] Gr1 br1 sr1 fun r4 Gr4 br4 sr4 => ((¬ r4 = 0 → (gC Gr4 x = kO 1 ∧ cI Γ l h mX2_of [.ref x, .int p1, .int 2] Gr4 br4 sr4 fun r6 Gr6 br6 sr6 => (((r6 + p2) < 0 → (Q (some (.int (-5))) Gr6)) ∧ (¬ (r6 + p2) < 0 → (gC Gr6 x = kO 1 ∧ cI Γ l h mX2_of [.ref x, .int p1, .int 3] Gr6 br6 sr6 fun r9 Gr9 br9 sr9 => (((r9 + p2) < 6000 → (gC Gr9 x = kO 1 ∧ cI Γ l h mX2_of [.ref x, .int p1, .int 0] Gr9 br9 sr9 fun r12 Gr12 br12 sr12 => gC Gr12 x = kO 1 ∧ cI Γ l h mX2_of [.ref x, .int p1, .int 1] Gr12 br12 sr12 fun r15 Gr15 br15 sr15 => gC Gr15 x = kO 1 ∧ cI Γ l h mX2_isThere [.ref x, .int p1, .int r12, .int r15, .int (r6 + p2)] Gr15 br15 sr15 fun r18 Gr18 br18 sr18 => ((r18 = 0 → (gC Gr18 x = kO 1 ∧ cV Γ l h mX2_change [.ref x] Gr18 br18 sr18 fun Gr21 br21 sr21 => gC Gr21 x = kO 1 ∧ ∃ a25, (gR Gr21 x 0) = some a25 ∧ gC Gr21 a25 = kA 0 ∧ vp_in ((10 + (5 * p1)) + 2) (gL Gr21 a25) ∧ gM Gr21 a25 = true ∧ vp_in ((10 + (5 * p1)) + 2) (gL Gr21 a25) ∧ ∃ a31, (gR (sI Gr21 a25 ((10 + (5 * p1)) + 2).toNatClampNeg ((gI Gr21 a25 ((10 + (5 * p1)) + 2).toNatClampNeg) + p2)) x 0) = some a31 ∧ gC (sI Gr21 a25 ((10 + (5 * p1)) + 2).toNatClampNeg ((gI Gr21 a25 ((10 + (5 * p1)) + 2).toNatClampNeg) + p2)) a31 = kA 0 ∧ vp_in ((10 + (5 * p1)) + 3) (gL (sI Gr21 a25 ((10 + (5 * p1)) + 2).toNatClampNeg ((gI Gr21 a25 ((10 + (5 * p1)) + 2).toNatClampNeg) + p2)) a31) ∧ gM (sI Gr21 a25 ((10 + (5 * p1)) + 2).toNatClampNeg ((gI Gr21 a25 ((10 + (5 * p1)) + 2).toNatClampNeg) + p2)) a31 = true ∧ vp_in ((10 + (5 * p1)) + 3) (gL (sI Gr21 a25 ((10 + (5 * p1)) + 2).toNatClampNeg ((gI Gr21 a25 ((10 + (5 * p1)) + 2).toNatClampNeg) + p2)) a31) ∧ GW Γ l mX2_delay h MC MS Q 121 [(0, va_rf (some x)), (1, .int p1), (2, .int p2), (3, .int (r6 + p2)), (4, .int 0), (5, .int 0)] [] (sI (sI Gr21 a25 ((10 + (5 * p1)) + 2).toNatClampNeg ((gI Gr21 a25 ((10 + (5 * p1)) + 2).toNatClampNeg) + p2)) a31 ((10 + (5 * p1)) + 3).toNatClampNeg ((gI (sI Gr21 a25 ((10 + (5 * p1)) + 2).toNatClampNeg ((gI Gr21 a25 ((10 + (5 * p1)) + 2).toNatClampNeg) + p2)) a31 ((10 + (5 * p1)) + 3).toNatClampNeg) + p2)) br21 sr21)) ∧ (¬ r18 = 0 → (Q (some (.int (-4))) Gr18))))) ∧ (¬ (r9 + p2) < 6000 → (Q (some (.int (-5))) Gr9)))))))) ∧ (r4 = 0 → (Q (some (.int (-1))) Gr4)))))))) : GW Γ l mX2_delay h MC MS Q 0 [(0, va_rf (some x)), (1, .int p1), (2, .int p2)] [] G bc bs := by
  refine g_aload_n dX2_delay_0 rfl 0 rfl ?_
  refine g_iload_n dX2_delay_1 rfl 1 rfl ?_
  obtain ⟨c2, F⟩ := F
  refine h_callVI (ci := 1) (C := RX2) (T := TX2) (N := 30) (As := [.int p1]) (rest := []) F 1 rfl rfl (lw_V q2124 q2126 qs57 q117 q2127) vm_X2_isLeg (by decide) rfl c2 rfl (room_of sc_nil (Nat.le_of_ble_eq_true rfl)) dX2_delay_2 (fun r1 Gr1 br1 sr1 F => ?_)
  refine g_if_eq 21 dX2_delay_5 (by decide) (fun h41 => ?_) (fun h41 => ?_)
  · have F := F.1 h41
    refine g_iconst (v := (-1)) dX2_delay_21 (by decide) ?_
    exact g_iret rfl dX2_delay_22 F
  · have F := F.2 h41
    refine g_iload_n dX2_delay_8 rfl 2 rfl ?_
    refine g_sipush (v := (-600)) dX2_delay_9 (by decide) ?_
    refine g_sipush (v := 600) dX2_delay_12 (by decide) ?_
    refine h_callSI (As := [.int p2, .int (-600), .int 600]) (rest := []) F 3 rfl (lw_S q2085 q2086 q117 q2087) vm_X2_in.2 (by decide) rfl (room_of sc_nil (Nat.le_of_ble_eq_true rfl)) dX2_delay_15 (fun r4 Gr4 br4 sr4 F => ?_)
    refine g_if_ne 23 dX2_delay_18 (by decide) (fun h40 => ?_) (fun h40 => ?_)
    · have F := F.1 h40
      refine g_aload_n dX2_delay_23 rfl 0 rfl ?_
      refine g_iload_n dX2_delay_24 rfl 1 rfl ?_
      refine g_iconst (v := 2) dX2_delay_25 (by decide) ?_
      obtain ⟨c7, F⟩ := F
      refine h_callVI (ci := 1) (C := RX2) (T := TX2) (N := 30) (As := [.int p1, .int 2]) (rest := []) F 2 rfl rfl (lw_V q2093 q2095 qs54 q117 q2096) vm_X2_of (by decide) rfl c7 rfl (room_of sc_nil (Nat.le_of_ble_eq_true rfl)) dX2_delay_26 (fun r6 Gr6 br6 sr6 F => ?_)
      refine g_iload_n dX2_delay_29 rfl 2 rfl ?_
      refine g_iadd dX2_delay_30 ?_
      refine s_istore_n (lv' := [(0, va_rf (some x)), (1, .int p1), (2, .int p2), (3, .int (r6 + p2))]) (cat_R (cat_I (cat_I cat_nil))) dX2_delay_31 rfl (by decide) rfl [1, 2, 3, 0] rfl ?_
      refine g_iload_n dX2_delay_32 rfl 3 rfl ?_
      refine g_if_lt 50 dX2_delay_33 (by decide) (fun h39 => ?_) (fun h39 => ?_)
      · have F := F.1 h39
        refine g_bipush (v := (-5)) dX2_delay_50 (by decide) ?_
        exact g_iret rfl dX2_delay_52 F
      · have F := F.2 h39
        refine g_aload_n dX2_delay_36 rfl 0 rfl ?_
        refine g_iload_n dX2_delay_37 rfl 1 rfl ?_
        refine g_iconst (v := 3) dX2_delay_38 (by decide) ?_
        obtain ⟨c10, F⟩ := F
        refine h_callVI (ci := 1) (C := RX2) (T := TX2) (N := 30) (As := [.int p1, .int 3]) (rest := []) F 2 rfl rfl (lw_V q2093 q2095 qs54 q117 q2096) vm_X2_of (by decide) rfl c10 rfl (room_of sc_nil (Nat.le_of_ble_eq_true rfl)) dX2_delay_39 (fun r9 Gr9 br9 sr9 F => ?_)
        refine g_iload_n dX2_delay_42 rfl 2 rfl ?_
        refine g_iadd dX2_delay_43 ?_
        refine g_sipush (v := 6000) dX2_delay_44 (by decide) ?_
        refine g_icmp_lt 53 dX2_delay_47 (by decide) (fun h38 => ?_) (fun h38 => ?_)
        · have F := F.1 h38
          refine g_aload_n dX2_delay_53 rfl 0 rfl ?_
          refine g_iload_n dX2_delay_54 rfl 1 rfl ?_
          refine g_aload_n dX2_delay_55 rfl 0 rfl ?_
          refine g_iload_n dX2_delay_56 rfl 1 rfl ?_
          refine g_iconst (v := 0) dX2_delay_57 (by decide) ?_
          obtain ⟨c13, F⟩ := F
          refine h_callVI (ci := 1) (C := RX2) (T := TX2) (N := 30) (As := [.int p1, .int 0]) (rest := [.int p1, va_rf (some x)]) F 2 rfl rfl (lw_V q2093 q2095 qs54 q117 q2096) vm_X2_of (by decide) rfl c13 rfl (room_of (sc_I (sc_R sc_nil)) (Nat.le_of_ble_eq_true rfl)) dX2_delay_58 (fun r12 Gr12 br12 sr12 F => ?_)
          refine g_aload_n dX2_delay_61 rfl 0 rfl ?_
          refine g_iload_n dX2_delay_62 rfl 1 rfl ?_
          refine g_iconst (v := 1) dX2_delay_63 (by decide) ?_
          obtain ⟨c16, F⟩ := F
          refine h_callVI (ci := 1) (C := RX2) (T := TX2) (N := 30) (As := [.int p1, .int 1]) (rest := [.int r12, .int p1, va_rf (some x)]) F 2 rfl rfl (lw_V q2093 q2095 qs54 q117 q2096) vm_X2_of (by decide) rfl c16 rfl (room_of (sc_I (sc_I (sc_R sc_nil))) (Nat.le_of_ble_eq_true rfl)) dX2_delay_64 (fun r15 Gr15 br15 sr15 F => ?_)
          refine g_iload_n dX2_delay_67 rfl 3 rfl ?_
          obtain ⟨c19, F⟩ := F
          refine h_callVI (ci := 1) (C := RX2) (T := TX2) (N := 30) (As := [.int p1, .int r12, .int r15, .int (r6 + p2)]) (rest := []) F 4 rfl rfl (lw_V q2089 q2091 qs53 q117 q2092) vm_X2_isThere (by decide) rfl c19 rfl (room_of sc_nil (Nat.le_of_ble_eq_true rfl)) dX2_delay_68 (fun r18 Gr18 br18 sr18 F => ?_)
          refine g_if_eq 77 dX2_delay_71 (by decide) (fun h37 => ?_) (fun h37 => ?_)
          · have F := F.1 h37
            refine g_aload_n dX2_delay_77 rfl 0 rfl ?_
            obtain ⟨c22, F⟩ := F
            refine h_callVV (ci := 1) (C := RX2) (T := TX2) (N := 30) (As := []) (rest := []) F 0 rfl rfl (lw_V q2097 q2099 qs55 q117 q2100) vm_X2_change (by decide) rfl c22 rfl (room_of sc_nil (Nat.le_of_ble_eq_true rfl)) dX2_delay_78 (fun Gr21 br21 sr21 F => ?_)
            refine g_aload_n dX2_delay_81 rfl 0 rfl ?_
            obtain ⟨c24, F⟩ := F
            refine h_get (v := va_rf (gR Gr21 x 0)) 1 0 (C := RX2) (T := TX2) (N := 30) rfl in_X2 (by decide) q1989 (Or.inl rfl) rfl c24 rfl dX2_delay_82 ?_
            refine g_bipush (v := 10) dX2_delay_85 (by decide) ?_
            refine g_iconst (v := 5) dX2_delay_87 (by decide) ?_
            refine g_iload_n dX2_delay_88 rfl 1 rfl ?_
            refine g_imul dX2_delay_89 ?_
            refine g_iadd dX2_delay_90 ?_
            refine g_iconst (v := 2) dX2_delay_91 (by decide) ?_
            refine g_iadd dX2_delay_92 ?_
            refine g_dup2 dX2_delay_93 rfl (va_rf_cat _) ?_
            obtain ⟨a25, e26, F⟩ := F
            obtain ⟨c27, F⟩ := F
            obtain ⟨k28, F⟩ := F
            refine h_iald e26 c27 k28 dX2_delay_94 ?_
            refine g_iload_n dX2_delay_95 rfl 2 rfl ?_
            refine g_iadd dX2_delay_96 ?_
            obtain ⟨m29, F⟩ := F
            obtain ⟨k30, F⟩ := F
            refine h_iast e26 c27 m29 k30 dX2_delay_97 ?_
            refine g_aload_n dX2_delay_98 rfl 0 rfl ?_
            refine h_get (v := va_rf (gR (sI Gr21 a25 ((10 + (5 * p1)) + 2).toNatClampNeg ((gI Gr21 a25 ((10 + (5 * p1)) + 2).toNatClampNeg) + p2)) x 0)) 1 0 (C := RX2) (T := TX2) (N := 30) rfl in_X2 (by decide) q1989 (Or.inl rfl) rfl c24 rfl dX2_delay_99 ?_
            refine g_bipush (v := 10) dX2_delay_102 (by decide) ?_
            refine g_iconst (v := 5) dX2_delay_104 (by decide) ?_
            refine g_iload_n dX2_delay_105 rfl 1 rfl ?_
            refine g_imul dX2_delay_106 ?_
            refine g_iadd dX2_delay_107 ?_
            refine g_iconst (v := 3) dX2_delay_108 (by decide) ?_
            refine g_iadd dX2_delay_109 ?_
            refine g_dup2 dX2_delay_110 rfl (va_rf_cat _) ?_
            obtain ⟨a31, e32, F⟩ := F
            obtain ⟨c33, F⟩ := F
            obtain ⟨k34, F⟩ := F
            refine h_iald e32 c33 k34 dX2_delay_111 ?_
            refine g_iload_n dX2_delay_112 rfl 2 rfl ?_
            refine g_iadd dX2_delay_113 ?_
            obtain ⟨m35, F⟩ := F
            obtain ⟨k36, F⟩ := F
            refine h_iast e32 c33 m35 k36 dX2_delay_114 ?_
            refine g_iconst (v := 0) dX2_delay_115 (by decide) ?_
            refine s_istore (lv' := [(0, va_rf (some x)), (1, .int p1), (2, .int p2), (3, .int (r6 + p2)), (4, .int 0)]) (cat_R (cat_I (cat_I (cat_I cat_nil)))) dX2_delay_116 (by decide) rfl [1, 2, 3, 4, 0] rfl ?_
            refine g_iconst (v := 0) dX2_delay_118 (by decide) ?_
            refine s_istore (lv' := [(0, va_rf (some x)), (1, .int p1), (2, .int p2), (3, .int (r6 + p2)), (4, .int 0), (5, .int 0)]) (cat_R (cat_I (cat_I (cat_I (cat_I cat_nil))))) dX2_delay_119 (by decide) rfl [1, 2, 3, 4, 5, 0] rfl ?_
            exact F
          · have F := F.2 h37
            refine g_bipush (v := (-4)) dX2_delay_74 (by decide) ?_
            exact g_iret rfl dX2_delay_76 F
        · have F := F.2 h38
          refine g_bipush (v := (-5)) dX2_delay_50 (by decide) ?_
          exact g_iret rfl dX2_delay_52 F
    · have F := F.2 h40
      refine g_iconst (v := (-1)) dX2_delay_21 (by decide) ?_
      exact g_iret rfl dX2_delay_22 F
theorem rX2_delay_121 {Γ : GE} {l : Launch} {h MC MS : Nat} {Q : Option Value → GH → Prop} {bc bs : Nat} {G : GH} (x : Nat) (p1 : Int32) (p2 : Int32) (p3 : Int32) (p4 : Int32) (p5 : Int32) (F : (gC G x = kO 1 ∧ ∃ a2, (gR G x 0) = some a2 ∧ gC G a2 = kA 0 ∧ vp_in 1 (gL G a2) ∧ (((gI G a2 (1 : Int32).toNatClampNeg) ≤ p5 → (Q (some (.int p4)) G)) ∧ (¬ (gI G a2 (1 : Int32).toNatClampNeg) ≤ p5 → (cV Γ l h mX2_reorder [.ref x, .int p5] G bc bs fun Gr6 br6 sr6 => gC Gr6 x = kO 1 ∧ cV Γ l h mX2_take [.ref x, .int p5] Gr6 br6 sr6 fun Gr8 br8 sr8 => gC Gr8 x = kO 1 ∧ cI Γ l h mX2_violationAt [.ref x, .int 0] Gr8 br8 sr8 fun r11 Gr11 br11 sr11 => ((r11 ≤ 0 → (GW Γ l mX2_delay h MC MS Q 121 [(0, va_rf (some x)), (1, .int p1), (2, .int p2), (3, .int p3), (4, .int (p4 + 0)), (5, .int (p5 + 1))] [] Gr11 br11 sr11)) ∧ (¬ r11 ≤ 0 → (GW Γ l mX2_delay h MC MS Q 121 [(0, va_rf (some x)), (1, .int p1), (2, .int p2), (3, .int p3), (4, .int (p4 + 1)), (5, .int (p5 + 1))] [] Gr11 br11 sr11)))))))) : GW Γ l mX2_delay h MC MS Q 121 [(0, va_rf (some x)), (1, .int p1), (2, .int p2), (3, .int p3), (4, .int p4), (5, .int p5)] [] G bc bs := by
  refine g_iload dX2_delay_121 5 rfl ?_
  refine g_aload_n dX2_delay_123 rfl 0 rfl ?_
  obtain ⟨c1, F⟩ := F
  refine h_get (v := va_rf (gR G x 0)) 1 0 (C := RX2) (T := TX2) (N := 30) rfl in_X2 (by decide) q1989 (Or.inl rfl) rfl c1 rfl dX2_delay_124 ?_
  refine g_iconst (v := 1) dX2_delay_127 (by decide) ?_
  obtain ⟨a2, e3, F⟩ := F
  obtain ⟨c4, F⟩ := F
  obtain ⟨k5, F⟩ := F
  refine h_iald e3 c4 k5 dX2_delay_128 ?_
  refine g_icmp_ge 168 dX2_delay_129 (by decide) (fun h15 => ?_) (fun h15 => ?_)
  · have F := F.1 h15
    refine g_iload dX2_delay_168 4 rfl ?_
    exact g_iret rfl dX2_delay_170 F
  · have F := F.2 h15
    refine g_aload_n dX2_delay_132 rfl 0 rfl ?_
    refine g_iload dX2_delay_133 5 rfl ?_
    refine h_callVV (ci := 1) (C := RX2) (T := TX2) (N := 30) (As := [.int p5]) (rest := []) F 1 rfl rfl (lw_V q2337 q2339 qs88 q117 q2340) vm_X2_reorder (by decide) rfl c1 rfl (room_of sc_nil (Nat.le_of_ble_eq_true rfl)) dX2_delay_135 (fun Gr6 br6 sr6 F => ?_)
    refine g_aload_n dX2_delay_138 rfl 0 rfl ?_
    refine g_iload dX2_delay_139 5 rfl ?_
    obtain ⟨c9, F⟩ := F
    refine h_callVV (ci := 1) (C := RX2) (T := TX2) (N := 30) (As := [.int p5]) (rest := []) F 1 rfl rfl (lw_V q2168 q2170 qs64 q117 q2171) vm_X2_take (by decide) rfl c9 rfl (room_of sc_nil (Nat.le_of_ble_eq_true rfl)) dX2_delay_141 (fun Gr8 br8 sr8 F => ?_)
    refine g_iload dX2_delay_144 4 rfl ?_
    refine g_aload_n dX2_delay_146 rfl 0 rfl ?_
    refine g_iconst (v := 0) dX2_delay_147 (by decide) ?_
    obtain ⟨c12, F⟩ := F
    refine h_callVI (ci := 1) (C := RX2) (T := TX2) (N := 30) (As := [.int 0]) (rest := [.int p4]) F 1 rfl rfl (lw_V q2184 q2186 qs68 q117 q2187) vm_X2_violationAt (by decide) rfl c12 rfl (room_of (sc_I sc_nil) (Nat.le_of_ble_eq_true rfl)) dX2_delay_148 (fun r11 Gr11 br11 sr11 F => ?_)
    refine g_if_le 158 dX2_delay_151 (by decide) (fun h14 => ?_) (fun h14 => ?_)
    · have F := F.1 h14
      refine g_iconst (v := 0) dX2_delay_158 (by decide) ?_
      refine g_iadd dX2_delay_159 ?_
      refine s_istore (lv' := [(0, va_rf (some x)), (1, .int p1), (2, .int p2), (3, .int p3), (4, .int (p4 + 0)), (5, .int p5)]) (cat_R (cat_I (cat_I (cat_I (cat_I (cat_I cat_nil)))))) dX2_delay_160 (by decide) rfl [1, 2, 3, 4, 0, 5] rfl ?_
      refine s_iinc (v := (p5 + 1)) (lv' := [(0, va_rf (some x)), (1, .int p1), (2, .int p2), (3, .int p3), (4, .int (p4 + 0)), (5, .int (p5 + 1))]) (cat_R (cat_I (cat_I (cat_I (cat_I (cat_I cat_nil)))))) dX2_delay_162 (k0 := 5) rfl rfl (by decide) rfl [1, 2, 3, 4, 5, 0] rfl ?_
      refine g_goto 121 dX2_delay_165 (by decide) ?_
      exact F
    · have F := F.2 h14
      refine g_iconst (v := 1) dX2_delay_154 (by decide) ?_
      refine g_goto 159 dX2_delay_155 (by decide) ?_
      refine g_iadd dX2_delay_159 ?_
      refine s_istore (lv' := [(0, va_rf (some x)), (1, .int p1), (2, .int p2), (3, .int p3), (4, .int (p4 + 1)), (5, .int p5)]) (cat_R (cat_I (cat_I (cat_I (cat_I (cat_I cat_nil)))))) dX2_delay_160 (by decide) rfl [1, 2, 3, 4, 0, 5] rfl ?_
      refine s_iinc (v := (p5 + 1)) (lv' := [(0, va_rf (some x)), (1, .int p1), (2, .int p2), (3, .int p3), (4, .int (p4 + 1)), (5, .int (p5 + 1))]) (cat_R (cat_I (cat_I (cat_I (cat_I (cat_I cat_nil)))))) dX2_delay_162 (k0 := 5) rfl rfl (by decide) rfl [1, 2, 3, 4, 5, 0] rfl ?_
      refine g_goto 121 dX2_delay_165 (by decide) ?_
      exact F
theorem rX2_reorder_0 {Γ : GE} {l : Launch} {h MC MS : Nat} {Q : Option Value → GH → Prop} {bc bs : Nat} {G : GH} (x : Nat) (p1 : Int32) (F : (gC G x = kO 1 ∧ cI Γ l h mX2_ofCrew [.ref x, .int p1, .int 3] G bc bs fun r1 Gr1 br1 sr1 => gC Gr1 x = kO 1 ∧ gM Gr1 x = true ∧ GW Γ l mX2_reorder h MC MS Q 14 [(0, va_rf (some x)), (1, .int p1), (2, .int r1), (3, .int 0)] [] (sI Gr1 x 8 0) br1 sr1)) : GW Γ l mX2_reorder h MC MS Q 0 [(0, va_rf (some x)), (1, .int p1)] [] G bc bs := by
  refine g_aload_n dX2_reorder_0 rfl 0 rfl ?_
  refine g_iload_n dX2_reorder_1 rfl 1 rfl ?_
  refine g_iconst (v := 3) dX2_reorder_2 (by decide) ?_
  obtain ⟨c2, F⟩ := F
  refine h_callVI (ci := 1) (C := RX2) (T := TX2) (N := 30) (As := [.int p1, .int 3]) (rest := []) F 2 rfl rfl (lw_V q2136 q2138 qs60 q117 q2139) vm_X2_ofCrew (by decide) rfl c2 rfl (room_of sc_nil (Nat.le_of_ble_eq_true rfl)) dX2_reorder_3 (fun r1 Gr1 br1 sr1 F => ?_)
  refine s_istore_n (lv' := [(0, va_rf (some x)), (1, .int p1), (2, .int r1)]) (cat_R (cat_I cat_nil)) dX2_reorder_6 rfl (by decide) rfl [1, 2, 0] rfl ?_
  refine g_aload_n dX2_reorder_7 rfl 0 rfl ?_
  refine g_iconst (v := 0) dX2_reorder_8 (by decide) ?_
  obtain ⟨c4, F⟩ := F
  obtain ⟨m5, F⟩ := F
  refine h_putI (mi := mX2_reorder) 1 8 (C := RX2) (T := TX2) (N := 30) rfl in_X2 tyX2_ok nmX2 (by decide) q1997 (Or.inl rfl) (Or.inl rfl) rfl rfl c4 m5 rfl rfl dX2_reorder_9 ?_
  refine g_iconst (v := 0) dX2_reorder_12 (by decide) ?_
  refine s_istore_n (lv' := [(0, va_rf (some x)), (1, .int p1), (2, .int r1), (3, .int 0)]) (cat_R (cat_I (cat_I cat_nil))) dX2_reorder_13 rfl (by decide) rfl [1, 2, 3, 0] rfl ?_
  exact F
theorem rX2_reorder_14 {Γ : GE} {l : Launch} {h MC MS : Nat} {Q : Option Value → GH → Prop} {bc bs : Nat} {G : GH} (x : Nat) (p1 : Int32) (p2 : Int32) (p3 : Int32) (F : ((p2 ≤ p3 → (gC G x = kO 1 ∧ cV Γ l h mX2_give [.ref x, .int p1] G bc bs fun Gr1 br1 sr1 => Q none Gr1)) ∧ (¬ p2 ≤ p3 → (gC G x = kO 1 ∧ cI Γ l h mX2_ofCrew [.ref x, .int p1, .int (4 + p3)] G bc bs fun r4 Gr4 br4 sr4 => ((¬ (r4 - r4 / 2 * 2) = 1 → (gC Gr4 x = kO 1 ∧ cI Γ l h mX2_put [.ref x, .int (r4 / 2), .int 0] Gr4 br4 sr4 fun r7 Gr7 br7 sr7 => GW Γ l mX2_reorder h MC MS Q 14 [(0, va_rf (some x)), (1, .int p1), (2, .int p2), (3, .int (p3 + 1))] [] Gr7 br7 sr7)) ∧ ((r4 - r4 / 2 * 2) = 1 → (gC Gr4 x = kO 1 ∧ cI Γ l h mX2_put [.ref x, .int (r4 / 2), .int 1] Gr4 br4 sr4 fun r10 Gr10 br10 sr10 => GW Γ l mX2_reorder h MC MS Q 14 [(0, va_rf (some x)), (1, .int p1), (2, .int p2), (3, .int (p3 + 1))] [] Gr10 br10 sr10))))))) : GW Γ l mX2_reorder h MC MS Q 14 [(0, va_rf (some x)), (1, .int p1), (2, .int p2), (3, .int p3)] [] G bc bs := by
  refine g_iload_n dX2_reorder_14 rfl 3 rfl ?_
  refine g_iload_n dX2_reorder_15 rfl 2 rfl ?_
  refine g_icmp_ge 58 dX2_reorder_16 (by decide) (fun h14 => ?_) (fun h14 => ?_)
  · have F := F.1 h14
    refine g_aload_n dX2_reorder_58 rfl 0 rfl ?_
    refine g_iload_n dX2_reorder_59 rfl 1 rfl ?_
    obtain ⟨c2, F⟩ := F
    refine h_callVV (ci := 1) (C := RX2) (T := TX2) (N := 30) (As := [.int p1]) (rest := []) F 1 rfl rfl (lw_V q2233 q2235 qs80 q117 q2236) vm_X2_give (by decide) rfl c2 rfl (room_of sc_nil (Nat.le_of_ble_eq_true rfl)) dX2_reorder_60 (fun Gr1 br1 sr1 F => ?_)
    exact g_vret rfl dX2_reorder_63 F
  · have F := F.2 h14
    refine g_aload_n dX2_reorder_19 rfl 0 rfl ?_
    refine g_iload_n dX2_reorder_20 rfl 1 rfl ?_
    refine g_iconst (v := 4) dX2_reorder_21 (by decide) ?_
    refine g_iload_n dX2_reorder_22 rfl 3 rfl ?_
    refine g_iadd dX2_reorder_23 ?_
    obtain ⟨c5, F⟩ := F
    refine h_callVI (ci := 1) (C := RX2) (T := TX2) (N := 30) (As := [.int p1, .int (4 + p3)]) (rest := []) F 2 rfl rfl (lw_V q2136 q2138 qs60 q117 q2139) vm_X2_ofCrew (by decide) rfl c5 rfl (room_of sc_nil (Nat.le_of_ble_eq_true rfl)) dX2_reorder_24 (fun r4 Gr4 br4 sr4 F => ?_)
    refine s_istore (lv' := [(0, va_rf (some x)), (1, .int p1), (2, .int p2), (3, .int p3), (4, .int r4)]) (cat_R (cat_I (cat_I (cat_I cat_nil)))) dX2_reorder_27 (by decide) rfl [1, 2, 3, 4, 0] rfl ?_
    refine g_aload_n dX2_reorder_29 rfl 0 rfl ?_
    refine g_iload dX2_reorder_30 4 rfl ?_
    refine g_iconst (v := 2) dX2_reorder_32 (by decide) ?_
    refine g_idiv dX2_reorder_33 (by decide) ?_
    refine g_iload dX2_reorder_34 4 rfl ?_
    refine g_iconst (v := 2) dX2_reorder_36 (by decide) ?_
    refine g_irem dX2_reorder_37 (by decide) ?_
    refine g_iconst (v := 1) dX2_reorder_38 (by decide) ?_
    refine g_icmp_ne 46 dX2_reorder_39 (by decide) (fun h13 => ?_) (fun h13 => ?_)
    · have F := F.1 h13
      refine g_iconst (v := 0) dX2_reorder_46 (by decide) ?_
      obtain ⟨c8, F⟩ := F
      refine h_callVI (ci := 1) (C := RX2) (T := TX2) (N := 30) (As := [.int (r4 / 2), .int 0]) (rest := []) F 2 rfl rfl (lw_V q2180 q2182 qs67 q117 q2183) vm_X2_put (by decide) rfl c8 rfl (room_of sc_nil (Nat.le_of_ble_eq_true rfl)) dX2_reorder_47 (fun r7 Gr7 br7 sr7 F => ?_)
      refine s_istore (lv' := [(0, va_rf (some x)), (1, .int p1), (2, .int p2), (3, .int p3), (4, .int r4), (5, .int r7)]) (cat_R (cat_I (cat_I (cat_I (cat_I cat_nil))))) dX2_reorder_50 (by decide) rfl [1, 2, 3, 4, 5, 0] rfl ?_
      refine s_iinc (v := (p3 + 1)) (lv' := [(0, va_rf (some x)), (1, .int p1), (2, .int p2), (3, .int (p3 + 1)), (4, .int r4), (5, .int r7)]) (cat_R (cat_I (cat_I (cat_I (cat_I (cat_I cat_nil)))))) dX2_reorder_52 (k0 := 3) rfl rfl (by decide) rfl [1, 2, 3, 0, 4, 5] rfl ?_
      refine g_goto 14 dX2_reorder_55 (by decide) ?_
      refine GW.lsub (lv' := [(0, va_rf (some x)), (1, .int p1), (2, .int p2), (3, .int (p3 + 1))]) [0, 1, 2, 3] rfl ?_
      exact F
    · have F := F.2 h13
      refine g_iconst (v := 1) dX2_reorder_42 (by decide) ?_
      refine g_goto 47 dX2_reorder_43 (by decide) ?_
      obtain ⟨c11, F⟩ := F
      refine h_callVI (ci := 1) (C := RX2) (T := TX2) (N := 30) (As := [.int (r4 / 2), .int 1]) (rest := []) F 2 rfl rfl (lw_V q2180 q2182 qs67 q117 q2183) vm_X2_put (by decide) rfl c11 rfl (room_of sc_nil (Nat.le_of_ble_eq_true rfl)) dX2_reorder_47 (fun r10 Gr10 br10 sr10 F => ?_)
      refine s_istore (lv' := [(0, va_rf (some x)), (1, .int p1), (2, .int p2), (3, .int p3), (4, .int r4), (5, .int r10)]) (cat_R (cat_I (cat_I (cat_I (cat_I cat_nil))))) dX2_reorder_50 (by decide) rfl [1, 2, 3, 4, 5, 0] rfl ?_
      refine s_iinc (v := (p3 + 1)) (lv' := [(0, va_rf (some x)), (1, .int p1), (2, .int p2), (3, .int (p3 + 1)), (4, .int r4), (5, .int r10)]) (cat_R (cat_I (cat_I (cat_I (cat_I (cat_I cat_nil)))))) dX2_reorder_52 (k0 := 3) rfl rfl (by decide) rfl [1, 2, 3, 0, 4, 5] rfl ?_
      refine g_goto 14 dX2_reorder_55 (by decide) ?_
      refine GW.lsub (lv' := [(0, va_rf (some x)), (1, .int p1), (2, .int p2), (3, .int (p3 + 1))]) [0, 1, 2, 3] rfl ?_
      exact F
theorem rX2_cancel_0 {Γ : GE} {l : Launch} {h MC MS : Nat} {Q : Option Value → GH → Prop} {bc bs : Nat} {G : GH} (x : Nat) (p1 : Int32) (F : (gC G x = kO 1 ∧ cI Γ l h mX2_isLeg [.ref x, .int p1] G bc bs fun r1 Gr1 br1 sr1 => ((¬ r1 = 0 → (gC Gr1 x = kO 1 ∧ cI Γ l h mX2_of [.ref x, .int p1, .int 4] Gr1 br1 sr1 fun r4 Gr4 br4 sr4 => ((¬ r4 = 1 → (gC Gr4 x = kO 1 ∧ cV Γ l h mX2_change [.ref x] Gr4 br4 sr4 fun Gr7 br7 sr7 => gC Gr7 x = kO 1 ∧ ∃ a11, (gR Gr7 x 0) = some a11 ∧ gC Gr7 a11 = kA 0 ∧ gM Gr7 a11 = true ∧ vp_in ((10 + (5 * p1)) + 4) (gL Gr7 a11) ∧ GW Γ l mX2_cancel h MC MS Q 45 [(0, va_rf (some x)), (1, .int p1), (2, .int 0), (3, .int 0)] [] (sI Gr7 a11 ((10 + (5 * p1)) + 4).toNatClampNeg 1) br7 sr7)) ∧ (r4 = 1 → (Q (some (.int (-2))) Gr4))))) ∧ (r1 = 0 → (Q (some (.int (-1))) Gr1))))) : GW Γ l mX2_cancel h MC MS Q 0 [(0, va_rf (some x)), (1, .int p1)] [] G bc bs := by
  refine g_aload_n dX2_cancel_0 rfl 0 rfl ?_
  refine g_iload_n dX2_cancel_1 rfl 1 rfl ?_
  obtain ⟨c2, F⟩ := F
  refine h_callVI (ci := 1) (C := RX2) (T := TX2) (N := 30) (As := [.int p1]) (rest := []) F 1 rfl rfl (lw_V q2124 q2126 qs57 q117 q2127) vm_X2_isLeg (by decide) rfl c2 rfl (room_of sc_nil (Nat.le_of_ble_eq_true rfl)) dX2_cancel_2 (fun r1 Gr1 br1 sr1 F => ?_)
  refine g_if_ne 10 dX2_cancel_5 (by decide) (fun h17 => ?_) (fun h17 => ?_)
  · have F := F.1 h17
    refine g_aload_n dX2_cancel_10 rfl 0 rfl ?_
    refine g_iload_n dX2_cancel_11 rfl 1 rfl ?_
    refine g_iconst (v := 4) dX2_cancel_12 (by decide) ?_
    obtain ⟨c5, F⟩ := F
    refine h_callVI (ci := 1) (C := RX2) (T := TX2) (N := 30) (As := [.int p1, .int 4]) (rest := []) F 2 rfl rfl (lw_V q2093 q2095 qs54 q117 q2096) vm_X2_of (by decide) rfl c5 rfl (room_of sc_nil (Nat.le_of_ble_eq_true rfl)) dX2_cancel_13 (fun r4 Gr4 br4 sr4 F => ?_)
    refine g_iconst (v := 1) dX2_cancel_16 (by decide) ?_
    refine g_icmp_ne 23 dX2_cancel_17 (by decide) (fun h16 => ?_) (fun h16 => ?_)
    · have F := F.1 h16
      refine g_aload_n dX2_cancel_23 rfl 0 rfl ?_
      obtain ⟨c8, F⟩ := F
      refine h_callVV (ci := 1) (C := RX2) (T := TX2) (N := 30) (As := []) (rest := []) F 0 rfl rfl (lw_V q2097 q2099 qs55 q117 q2100) vm_X2_change (by decide) rfl c8 rfl (room_of sc_nil (Nat.le_of_ble_eq_true rfl)) dX2_cancel_24 (fun Gr7 br7 sr7 F => ?_)
      refine g_aload_n dX2_cancel_27 rfl 0 rfl ?_
      obtain ⟨c10, F⟩ := F
      refine h_get (v := va_rf (gR Gr7 x 0)) 1 0 (C := RX2) (T := TX2) (N := 30) rfl in_X2 (by decide) q1989 (Or.inl rfl) rfl c10 rfl dX2_cancel_28 ?_
      refine g_bipush (v := 10) dX2_cancel_31 (by decide) ?_
      refine g_iconst (v := 5) dX2_cancel_33 (by decide) ?_
      refine g_iload_n dX2_cancel_34 rfl 1 rfl ?_
      refine g_imul dX2_cancel_35 ?_
      refine g_iadd dX2_cancel_36 ?_
      refine g_iconst (v := 4) dX2_cancel_37 (by decide) ?_
      refine g_iadd dX2_cancel_38 ?_
      refine g_iconst (v := 1) dX2_cancel_39 (by decide) ?_
      obtain ⟨a11, e12, F⟩ := F
      obtain ⟨c13, F⟩ := F
      obtain ⟨m14, F⟩ := F
      obtain ⟨k15, F⟩ := F
      refine h_iast e12 c13 m14 k15 dX2_cancel_40 ?_
      refine g_iconst (v := 0) dX2_cancel_41 (by decide) ?_
      refine s_istore_n (lv' := [(0, va_rf (some x)), (1, .int p1), (2, .int 0)]) (cat_R (cat_I cat_nil)) dX2_cancel_42 rfl (by decide) rfl [1, 2, 0] rfl ?_
      refine g_iconst (v := 0) dX2_cancel_43 (by decide) ?_
      refine s_istore_n (lv' := [(0, va_rf (some x)), (1, .int p1), (2, .int 0), (3, .int 0)]) (cat_R (cat_I (cat_I cat_nil))) dX2_cancel_44 rfl (by decide) rfl [1, 2, 3, 0] rfl ?_
      exact F
    · have F := F.2 h16
      refine g_bipush (v := (-2)) dX2_cancel_20 (by decide) ?_
      exact g_iret rfl dX2_cancel_22 F
  · have F := F.2 h17
    refine g_iconst (v := (-1)) dX2_cancel_8 (by decide) ?_
    exact g_iret rfl dX2_cancel_9 F
theorem rX2_cancel_45 {Γ : GE} {l : Launch} {h MC MS : Nat} {Q : Option Value → GH → Prop} {bc bs : Nat} {G : GH} (x : Nat) (p1 : Int32) (p2 : Int32) (p3 : Int32) (F : (gC G x = kO 1 ∧ ∃ a2, (gR G x 0) = some a2 ∧ gC G a2 = kA 0 ∧ vp_in 1 (gL G a2) ∧ (((gI G a2 (1 : Int32).toNatClampNeg) ≤ p3 → (Q (some (.int p2)) G)) ∧ (¬ (gI G a2 (1 : Int32).toNatClampNeg) ≤ p3 → (cI Γ l h mX2_placeIn [.ref x, .int p3, .int p1] G bc bs fun r6 Gr6 br6 sr6 => ((r6 < 0 → (GW Γ l mX2_cancel h MC MS Q 45 [(0, va_rf (some x)), (1, .int p1), (2, .int p2), (3, .int (p3 + 1))] [] Gr6 br6 sr6)) ∧ (¬ r6 < 0 → (gC Gr6 x = kO 1 ∧ cV Γ l h mX2_take [.ref x, .int p3] Gr6 br6 sr6 fun Gr8 br8 sr8 => gC Gr8 x = kO 1 ∧ cV Γ l h mX2_takeOut [.ref x, .int r6] Gr8 br8 sr8 fun Gr11 br11 sr11 => gC Gr11 x = kO 1 ∧ cV Γ l h mX2_give [.ref x, .int p3] Gr11 br11 sr11 fun Gr14 br14 sr14 => GW Γ l mX2_cancel h MC MS Q 45 [(0, va_rf (some x)), (1, .int p1), (2, .int (p2 + 1)), (3, .int (p3 + 1))] [] Gr14 br14 sr14)))))))) : GW Γ l mX2_cancel h MC MS Q 45 [(0, va_rf (some x)), (1, .int p1), (2, .int p2), (3, .int p3)] [] G bc bs := by
  refine g_iload_n dX2_cancel_45 rfl 3 rfl ?_
  refine g_aload_n dX2_cancel_46 rfl 0 rfl ?_
  obtain ⟨c1, F⟩ := F
  refine h_get (v := va_rf (gR G x 0)) 1 0 (C := RX2) (T := TX2) (N := 30) rfl in_X2 (by decide) q1989 (Or.inl rfl) rfl c1 rfl dX2_cancel_47 ?_
  refine g_iconst (v := 1) dX2_cancel_50 (by decide) ?_
  obtain ⟨a2, e3, F⟩ := F
  obtain ⟨c4, F⟩ := F
  obtain ⟨k5, F⟩ := F
  refine h_iald e3 c4 k5 dX2_cancel_51 ?_
  refine g_icmp_ge 93 dX2_cancel_52 (by decide) (fun h18 => ?_) (fun h18 => ?_)
  · have F := F.1 h18
    refine g_iload_n dX2_cancel_93 rfl 2 rfl ?_
    exact g_iret rfl dX2_cancel_94 F
  · have F := F.2 h18
    refine g_aload_n dX2_cancel_55 rfl 0 rfl ?_
    refine g_iload_n dX2_cancel_56 rfl 3 rfl ?_
    refine g_iload_n dX2_cancel_57 rfl 1 rfl ?_
    refine h_callVI (ci := 1) (C := RX2) (T := TX2) (N := 30) (As := [.int p3, .int p1]) (rest := []) F 2 rfl rfl (lw_V q2132 q2134 qs59 q117 q2135) vm_X2_placeIn (by decide) rfl c1 rfl (room_of sc_nil (Nat.le_of_ble_eq_true rfl)) dX2_cancel_58 (fun r6 Gr6 br6 sr6 F => ?_)
    refine s_istore (lv' := [(0, va_rf (some x)), (1, .int p1), (2, .int p2), (3, .int p3), (4, .int r6)]) (cat_R (cat_I (cat_I (cat_I cat_nil)))) dX2_cancel_61 (by decide) rfl [1, 2, 3, 4, 0] rfl ?_
    refine g_iload dX2_cancel_63 4 rfl ?_
    refine g_if_lt 87 dX2_cancel_65 (by decide) (fun h17 => ?_) (fun h17 => ?_)
    · have F := F.1 h17
      refine s_iinc (v := (p3 + 1)) (lv' := [(0, va_rf (some x)), (1, .int p1), (2, .int p2), (3, .int (p3 + 1)), (4, .int r6)]) (cat_R (cat_I (cat_I (cat_I (cat_I cat_nil))))) dX2_cancel_87 (k0 := 3) rfl rfl (by decide) rfl [1, 2, 3, 0, 4] rfl ?_
      refine g_goto 45 dX2_cancel_90 (by decide) ?_
      refine GW.lsub (lv' := [(0, va_rf (some x)), (1, .int p1), (2, .int p2), (3, .int (p3 + 1))]) [0, 1, 2, 3] rfl ?_
      exact F
    · have F := F.2 h17
      refine g_aload_n dX2_cancel_68 rfl 0 rfl ?_
      refine g_iload_n dX2_cancel_69 rfl 3 rfl ?_
      obtain ⟨c9, F⟩ := F
      refine h_callVV (ci := 1) (C := RX2) (T := TX2) (N := 30) (As := [.int p3]) (rest := []) F 1 rfl rfl (lw_V q2168 q2170 qs64 q117 q2171) vm_X2_take (by decide) rfl c9 rfl (room_of sc_nil (Nat.le_of_ble_eq_true rfl)) dX2_cancel_70 (fun Gr8 br8 sr8 F => ?_)
      refine g_aload_n dX2_cancel_73 rfl 0 rfl ?_
      refine g_iload dX2_cancel_74 4 rfl ?_
      obtain ⟨c12, F⟩ := F
      refine h_callVV (ci := 1) (C := RX2) (T := TX2) (N := 30) (As := [.int r6]) (rest := []) F 1 rfl rfl (lw_V q2225 q2227 qs78 q117 q2228) vm_X2_takeOut (by decide) rfl c12 rfl (room_of sc_nil (Nat.le_of_ble_eq_true rfl)) dX2_cancel_76 (fun Gr11 br11 sr11 F => ?_)
      refine g_aload_n dX2_cancel_79 rfl 0 rfl ?_
      refine g_iload_n dX2_cancel_80 rfl 3 rfl ?_
      obtain ⟨c15, F⟩ := F
      refine h_callVV (ci := 1) (C := RX2) (T := TX2) (N := 30) (As := [.int p3]) (rest := []) F 1 rfl rfl (lw_V q2233 q2235 qs80 q117 q2236) vm_X2_give (by decide) rfl c15 rfl (room_of sc_nil (Nat.le_of_ble_eq_true rfl)) dX2_cancel_81 (fun Gr14 br14 sr14 F => ?_)
      refine s_iinc (v := (p2 + 1)) (lv' := [(0, va_rf (some x)), (1, .int p1), (2, .int (p2 + 1)), (3, .int p3), (4, .int r6)]) (cat_R (cat_I (cat_I (cat_I (cat_I cat_nil))))) dX2_cancel_84 (k0 := 2) rfl rfl (by decide) rfl [1, 2, 0, 3, 4] rfl ?_
      refine s_iinc (v := (p3 + 1)) (lv' := [(0, va_rf (some x)), (1, .int p1), (2, .int (p2 + 1)), (3, .int (p3 + 1)), (4, .int r6)]) (cat_R (cat_I (cat_I (cat_I (cat_I cat_nil))))) dX2_cancel_87 (k0 := 3) rfl rfl (by decide) rfl [1, 2, 3, 0, 4] rfl ?_
      refine g_goto 45 dX2_cancel_90 (by decide) ?_
      refine GW.lsub (lv' := [(0, va_rf (some x)), (1, .int p1), (2, .int (p2 + 1)), (3, .int (p3 + 1))]) [0, 1, 2, 3] rfl ?_
      exact F
theorem rX2_setReserve_0 {Γ : GE} {l : Launch} {h MC MS : Nat} {Q : Option Value → GH → Prop} {bc bs : Nat} {G : GH} (x : Nat) (p1 : Int32) (p2 : Int32) (p3 : Int32) (F : (gC G x = kO 1 ∧ cI Γ l h mX2_isCrew [.ref x, .int p1] G bc bs fun r1 Gr1 br1 sr1 => ((r1 = 0 → (Q (some (.int (-1))) Gr1)) ∧ (¬ r1 = 0 → (cI Γ l h mX2_in [.int p2, .int 0, .int 5999] Gr1 br1 sr1 fun r4 Gr4 br4 sr4 => ((r4 = 0 → (Q (some (.int (-1))) Gr4)) ∧ (¬ r4 = 0 → (cI Γ l h mX2_in [.int p3, .int p2, .int 6000] Gr4 br4 sr4 fun r6 Gr6 br6 sr6 => ((¬ r6 = 0 → (gC Gr6 x = kO 1 ∧ cV Γ l h mX2_change [.ref x] Gr6 br6 sr6 fun Gr8 br8 sr8 => gC Gr8 x = kO 1 ∧ cI Γ l h mX2_isReserve [.ref x, .int p1] Gr8 br8 sr8 fun r11 Gr11 br11 sr11 => ((r11 = 0 → (GW Γ l mX2_setReserve h MC MS Q 49 [(0, va_rf (some x)), (1, .int p1), (2, .int p2), (3, .int p3)] [.int 0] Gr11 br11 sr11)) ∧ (¬ r11 = 0 → (GW Γ l mX2_setReserve h MC MS Q 49 [(0, va_rf (some x)), (1, .int p1), (2, .int p2), (3, .int p3)] [.int 1] Gr11 br11 sr11))))) ∧ (r6 = 0 → (Q (some (.int (-1))) Gr6))))))))))) : GW Γ l mX2_setReserve h MC MS Q 0 [(0, va_rf (some x)), (1, .int p1), (2, .int p2), (3, .int p3)] [] G bc bs := by
  refine g_aload_n dX2_setReserve_0 rfl 0 rfl ?_
  refine g_iload_n dX2_setReserve_1 rfl 1 rfl ?_
  obtain ⟨c2, F⟩ := F
  refine h_callVI (ci := 1) (C := RX2) (T := TX2) (N := 30) (As := [.int p1]) (rest := []) F 1 rfl rfl (lw_V q2160 q2162 qs62 q117 q2163) vm_X2_isCrew (by decide) rfl c2 rfl (room_of sc_nil (Nat.le_of_ble_eq_true rfl)) dX2_setReserve_2 (fun r1 Gr1 br1 sr1 F => ?_)
  refine g_if_eq 30 dX2_setReserve_5 (by decide) (fun h17 => ?_) (fun h17 => ?_)
  · have F := F.1 h17
    refine g_iconst (v := (-1)) dX2_setReserve_30 (by decide) ?_
    exact g_iret rfl dX2_setReserve_31 F
  · have F := F.2 h17
    refine g_iload_n dX2_setReserve_8 rfl 2 rfl ?_
    refine g_iconst (v := 0) dX2_setReserve_9 (by decide) ?_
    refine g_sipush (v := 5999) dX2_setReserve_10 (by decide) ?_
    refine h_callSI (As := [.int p2, .int 0, .int 5999]) (rest := []) F 3 rfl (lw_S q2085 q2086 q117 q2087) vm_X2_in.2 (by decide) rfl (room_of sc_nil (Nat.le_of_ble_eq_true rfl)) dX2_setReserve_13 (fun r4 Gr4 br4 sr4 F => ?_)
    refine g_if_eq 30 dX2_setReserve_16 (by decide) (fun h16 => ?_) (fun h16 => ?_)
    · have F := F.1 h16
      refine g_iconst (v := (-1)) dX2_setReserve_30 (by decide) ?_
      exact g_iret rfl dX2_setReserve_31 F
    · have F := F.2 h16
      refine g_iload_n dX2_setReserve_19 rfl 3 rfl ?_
      refine g_iload_n dX2_setReserve_20 rfl 2 rfl ?_
      refine g_sipush (v := 6000) dX2_setReserve_21 (by decide) ?_
      refine h_callSI (As := [.int p3, .int p2, .int 6000]) (rest := []) F 3 rfl (lw_S q2085 q2086 q117 q2087) vm_X2_in.2 (by decide) rfl (room_of sc_nil (Nat.le_of_ble_eq_true rfl)) dX2_setReserve_24 (fun r6 Gr6 br6 sr6 F => ?_)
      refine g_if_ne 32 dX2_setReserve_27 (by decide) (fun h15 => ?_) (fun h15 => ?_)
      · have F := F.1 h15
        refine g_aload_n dX2_setReserve_32 rfl 0 rfl ?_
        obtain ⟨c9, F⟩ := F
        refine h_callVV (ci := 1) (C := RX2) (T := TX2) (N := 30) (As := []) (rest := []) F 0 rfl rfl (lw_V q2097 q2099 qs55 q117 q2100) vm_X2_change (by decide) rfl c9 rfl (room_of sc_nil (Nat.le_of_ble_eq_true rfl)) dX2_setReserve_33 (fun Gr8 br8 sr8 F => ?_)
        refine g_aload_n dX2_setReserve_36 rfl 0 rfl ?_
        refine g_iload_n dX2_setReserve_37 rfl 1 rfl ?_
        obtain ⟨c12, F⟩ := F
        refine h_callVI (ci := 1) (C := RX2) (T := TX2) (N := 30) (As := [.int p1]) (rest := []) F 1 rfl rfl (lw_V q2349 q2351 qs89 q117 q2352) vm_X2_isReserve (by decide) rfl c12 rfl (room_of sc_nil (Nat.le_of_ble_eq_true rfl)) dX2_setReserve_38 (fun r11 Gr11 br11 sr11 F => ?_)
        refine g_if_eq 48 dX2_setReserve_41 (by decide) (fun h14 => ?_) (fun h14 => ?_)
        · have F := F.1 h14
          refine g_iconst (v := 0) dX2_setReserve_48 (by decide) ?_
          exact F
        · have F := F.2 h14
          refine g_iconst (v := 1) dX2_setReserve_44 (by decide) ?_
          refine g_goto 49 dX2_setReserve_45 (by decide) ?_
          exact F
      · have F := F.2 h15
        refine g_iconst (v := (-1)) dX2_setReserve_30 (by decide) ?_
        exact g_iret rfl dX2_setReserve_31 F
theorem rX2_setReserve_49 {Γ : GE} {l : Launch} {h MC MS : Nat} {Q : Option Value → GH → Prop} {bc bs : Nat} {G : GH} (x : Nat) (p1 : Int32) (p2 : Int32) (p3 : Int32) (s0 : Int32) (F : (gC G x = kO 1 ∧ cI Γ l h mX2_crewAt [.int p1, .int 1] G bc bs fun r2 Gr2 br2 sr2 => ∃ a4, (gR G x 0) = some a4 ∧ gC Gr2 a4 = kA 0 ∧ gM Gr2 a4 = true ∧ vp_in r2 (gL Gr2 a4) ∧ gC (sI Gr2 a4 r2.toNatClampNeg p2) x = kO 1 ∧ cI Γ l h mX2_crewAt [.int p1, .int 2] (sI Gr2 a4 r2.toNatClampNeg p2) br2 sr2 fun r10 Gr10 br10 sr10 => ∃ a12, (gR (sI Gr2 a4 r2.toNatClampNeg p2) x 0) = some a12 ∧ gC Gr10 a12 = kA 0 ∧ gM Gr10 a12 = true ∧ vp_in r10 (gL Gr10 a12) ∧ Q (some (.int s0)) (sI Gr10 a12 r10.toNatClampNeg p3))) : GW Γ l mX2_setReserve h MC MS Q 49 [(0, va_rf (some x)), (1, .int p1), (2, .int p2), (3, .int p3)] [.int s0] G bc bs := by
  refine s_istore (lv' := [(0, va_rf (some x)), (1, .int p1), (2, .int p2), (3, .int p3), (4, .int s0)]) (cat_R (cat_I (cat_I (cat_I cat_nil)))) dX2_setReserve_49 (by decide) rfl [1, 2, 3, 4, 0] rfl ?_
  refine g_aload_n dX2_setReserve_51 rfl 0 rfl ?_
  obtain ⟨c1, F⟩ := F
  refine h_get (v := va_rf (gR G x 0)) 1 0 (C := RX2) (T := TX2) (N := 30) rfl in_X2 (by decide) q1989 (Or.inl rfl) rfl c1 rfl dX2_setReserve_52 ?_
  refine g_iload_n dX2_setReserve_55 rfl 1 rfl ?_
  refine g_iconst (v := 1) dX2_setReserve_56 (by decide) ?_
  refine h_callSI (As := [.int p1, .int 1]) (rest := [va_rf (gR G x 0)]) F 2 rfl (lw_S q2109 q2110 q117 q2111) vm_X2_crewAt.2 (by decide) rfl (room_of (sc_R sc_nil) (Nat.le_of_ble_eq_true rfl)) dX2_setReserve_57 (fun r2 Gr2 br2 sr2 F => ?_)
  refine g_iload_n dX2_setReserve_60 rfl 2 rfl ?_
  obtain ⟨a4, e5, F⟩ := F
  obtain ⟨c6, F⟩ := F
  obtain ⟨m7, F⟩ := F
  obtain ⟨k8, F⟩ := F
  refine h_iast e5 c6 m7 k8 dX2_setReserve_61 ?_
  refine g_aload_n dX2_setReserve_62 rfl 0 rfl ?_
  obtain ⟨c9, F⟩ := F
  refine h_get (v := va_rf (gR (sI Gr2 a4 r2.toNatClampNeg p2) x 0)) 1 0 (C := RX2) (T := TX2) (N := 30) rfl in_X2 (by decide) q1989 (Or.inl rfl) rfl c9 rfl dX2_setReserve_63 ?_
  refine g_iload_n dX2_setReserve_66 rfl 1 rfl ?_
  refine g_iconst (v := 2) dX2_setReserve_67 (by decide) ?_
  refine h_callSI (As := [.int p1, .int 2]) (rest := [va_rf (gR (sI Gr2 a4 r2.toNatClampNeg p2) x 0)]) F 2 rfl (lw_S q2109 q2110 q117 q2111) vm_X2_crewAt.2 (by decide) rfl (room_of (sc_R sc_nil) (Nat.le_of_ble_eq_true rfl)) dX2_setReserve_68 (fun r10 Gr10 br10 sr10 F => ?_)
  refine g_iload_n dX2_setReserve_71 rfl 3 rfl ?_
  obtain ⟨a12, e13, F⟩ := F
  obtain ⟨c14, F⟩ := F
  obtain ⟨m15, F⟩ := F
  obtain ⟨k16, F⟩ := F
  refine h_iast e13 c14 m15 k16 dX2_setReserve_72 ?_
  refine g_iload dX2_setReserve_73 4 rfl ?_
  exact g_iret rfl dX2_setReserve_75 F
theorem rX2_isReserve_0 {Γ : GE} {l : Launch} {h MC MS : Nat} {Q : Option Value → GH → Prop} {bc bs : Nat} {G : GH} (x : Nat) (p1 : Int32) (F : (gC G x = kO 1 ∧ cI Γ l h mX2_ofCrew [.ref x, .int p1, .int 1] G bc bs fun r1 Gr1 br1 sr1 => gC Gr1 x = kO 1 ∧ cI Γ l h mX2_ofCrew [.ref x, .int p1, .int 2] Gr1 br1 sr1 fun r4 Gr4 br4 sr4 => ((r4 ≤ r1 → (Q (some (.int 0)) Gr4)) ∧ (¬ r4 ≤ r1 → (Q (some (.int 1)) Gr4))))) : GW Γ l mX2_isReserve h MC MS Q 0 [(0, va_rf (some x)), (1, .int p1)] [] G bc bs := by
  refine g_aload_n dX2_isReserve_0 rfl 0 rfl ?_
  refine g_iload_n dX2_isReserve_1 rfl 1 rfl ?_
  refine g_iconst (v := 1) dX2_isReserve_2 (by decide) ?_
  obtain ⟨c2, F⟩ := F
  refine h_callVI (ci := 1) (C := RX2) (T := TX2) (N := 30) (As := [.int p1, .int 1]) (rest := []) F 2 rfl rfl (lw_V q2136 q2138 qs60 q117 q2139) vm_X2_ofCrew (by decide) rfl c2 rfl (room_of sc_nil (Nat.le_of_ble_eq_true rfl)) dX2_isReserve_3 (fun r1 Gr1 br1 sr1 F => ?_)
  refine g_aload_n dX2_isReserve_6 rfl 0 rfl ?_
  refine g_iload_n dX2_isReserve_7 rfl 1 rfl ?_
  refine g_iconst (v := 2) dX2_isReserve_8 (by decide) ?_
  obtain ⟨c5, F⟩ := F
  refine h_callVI (ci := 1) (C := RX2) (T := TX2) (N := 30) (As := [.int p1, .int 2]) (rest := [.int r1]) F 2 rfl rfl (lw_V q2136 q2138 qs60 q117 q2139) vm_X2_ofCrew (by decide) rfl c5 rfl (room_of (sc_I sc_nil) (Nat.le_of_ble_eq_true rfl)) dX2_isReserve_9 (fun r4 Gr4 br4 sr4 F => ?_)
  refine g_icmp_ge 19 dX2_isReserve_12 (by decide) (fun h7 => ?_) (fun h7 => ?_)
  · have F := F.1 h7
    refine g_iconst (v := 0) dX2_isReserve_19 (by decide) ?_
    exact g_zret rfl rfl dX2_isReserve_20 F
  · have F := F.2 h7
    refine g_iconst (v := 1) dX2_isReserve_15 (by decide) ?_
    refine g_goto 20 dX2_isReserve_16 (by decide) ?_
    exact g_zret rfl rfl dX2_isReserve_20 F
theorem rX2_reserve_0 {Γ : GE} {l : Launch} {h MC MS : Nat} {Q : Option Value → GH → Prop} {bc bs : Nat} {G : GH} (x : Nat) (p1 : Int32) (p2 : Int32) (F : (gC G x = kO 1 ∧ cI Γ l h mX2_isCrew [.ref x, .int p1] G bc bs fun r1 Gr1 br1 sr1 => ((r1 = 0 → (Q (some (.int (-1))) Gr1)) ∧ (¬ r1 = 0 → (cI Γ l h mX2_in [.int p2, .int 0, .int 1] Gr1 br1 sr1 fun r4 Gr4 br4 sr4 => ((¬ r4 = 0 → (gC Gr4 x = kO 1 ∧ cI Γ l h mX2_isReserve [.ref x, .int p1] Gr4 br4 sr4 fun r6 Gr6 br6 sr6 => ((r6 = 0 → (Q (some (.int (-2))) Gr6)) ∧ (¬ r6 = 0 → (gC Gr6 x = kO 1 ∧ cI Γ l h mX2_ofCrew [.ref x, .int p1, .int (1 + p2)] Gr6 br6 sr6 fun r9 Gr9 br9 sr9 => Q (some (.int r9)) Gr9))))) ∧ (r4 = 0 → (Q (some (.int (-1))) Gr4)))))))) : GW Γ l mX2_reserve h MC MS Q 0 [(0, va_rf (some x)), (1, .int p1), (2, .int p2)] [] G bc bs := by
  refine g_aload_n dX2_reserve_0 rfl 0 rfl ?_
  refine g_iload_n dX2_reserve_1 rfl 1 rfl ?_
  obtain ⟨c2, F⟩ := F
  refine h_callVI (ci := 1) (C := RX2) (T := TX2) (N := 30) (As := [.int p1]) (rest := []) F 1 rfl rfl (lw_V q2160 q2162 qs62 q117 q2163) vm_X2_isCrew (by decide) rfl c2 rfl (room_of sc_nil (Nat.le_of_ble_eq_true rfl)) dX2_reserve_2 (fun r1 Gr1 br1 sr1 F => ?_)
  refine g_if_eq 17 dX2_reserve_5 (by decide) (fun h14 => ?_) (fun h14 => ?_)
  · have F := F.1 h14
    refine g_iconst (v := (-1)) dX2_reserve_17 (by decide) ?_
    exact g_iret rfl dX2_reserve_18 F
  · have F := F.2 h14
    refine g_iload_n dX2_reserve_8 rfl 2 rfl ?_
    refine g_iconst (v := 0) dX2_reserve_9 (by decide) ?_
    refine g_iconst (v := 1) dX2_reserve_10 (by decide) ?_
    refine h_callSI (As := [.int p2, .int 0, .int 1]) (rest := []) F 3 rfl (lw_S q2085 q2086 q117 q2087) vm_X2_in.2 (by decide) rfl (room_of sc_nil (Nat.le_of_ble_eq_true rfl)) dX2_reserve_11 (fun r4 Gr4 br4 sr4 F => ?_)
    refine g_if_ne 19 dX2_reserve_14 (by decide) (fun h13 => ?_) (fun h13 => ?_)
    · have F := F.1 h13
      refine g_aload_n dX2_reserve_19 rfl 0 rfl ?_
      refine g_iload_n dX2_reserve_20 rfl 1 rfl ?_
      obtain ⟨c7, F⟩ := F
      refine h_callVI (ci := 1) (C := RX2) (T := TX2) (N := 30) (As := [.int p1]) (rest := []) F 1 rfl rfl (lw_V q2349 q2351 qs89 q117 q2352) vm_X2_isReserve (by decide) rfl c7 rfl (room_of sc_nil (Nat.le_of_ble_eq_true rfl)) dX2_reserve_21 (fun r6 Gr6 br6 sr6 F => ?_)
      refine g_if_eq 38 dX2_reserve_24 (by decide) (fun h12 => ?_) (fun h12 => ?_)
      · have F := F.1 h12
        refine g_bipush (v := (-2)) dX2_reserve_38 (by decide) ?_
        exact g_iret rfl dX2_reserve_40 F
      · have F := F.2 h12
        refine g_aload_n dX2_reserve_27 rfl 0 rfl ?_
        refine g_iload_n dX2_reserve_28 rfl 1 rfl ?_
        refine g_iconst (v := 1) dX2_reserve_29 (by decide) ?_
        refine g_iload_n dX2_reserve_30 rfl 2 rfl ?_
        refine g_iadd dX2_reserve_31 ?_
        obtain ⟨c10, F⟩ := F
        refine h_callVI (ci := 1) (C := RX2) (T := TX2) (N := 30) (As := [.int p1, .int (1 + p2)]) (rest := []) F 2 rfl rfl (lw_V q2136 q2138 qs60 q117 q2139) vm_X2_ofCrew (by decide) rfl c10 rfl (room_of sc_nil (Nat.le_of_ble_eq_true rfl)) dX2_reserve_32 (fun r9 Gr9 br9 sr9 F => ?_)
        refine g_goto 40 dX2_reserve_35 (by decide) ?_
        exact g_iret rfl dX2_reserve_40 F
    · have F := F.2 h13
      refine g_iconst (v := (-1)) dX2_reserve_17 (by decide) ?_
      exact g_iret rfl dX2_reserve_18 F
theorem rX2_called_0 {Γ : GE} {l : Launch} {h MC MS : Nat} {Q : Option Value → GH → Prop} {bc bs : Nat} {G : GH} (x : Nat) (p1 : Int32) (F : (gC G x = kO 1 ∧ cI Γ l h mX2_isLeg [.ref x, .int p1] G bc bs fun r1 Gr1 br1 sr1 => ((¬ r1 = 0 → (gC Gr1 x = kO 1 ∧ cI Γ l h mX2_isOpen [.ref x, .int p1] Gr1 br1 sr1 fun r4 Gr4 br4 sr4 => ((r4 = 0 → (Q (some (.int (-2))) Gr4)) ∧ (¬ r4 = 0 → (gC Gr4 x = kO 1 ∧ cI Γ l h mX2_calledFor [.ref x, .int p1] Gr4 br4 sr4 fun r7 Gr7 br7 sr7 => Q (some (.int r7)) Gr7))))) ∧ (r1 = 0 → (Q (some (.int (-1))) Gr1))))) : GW Γ l mX2_called h MC MS Q 0 [(0, va_rf (some x)), (1, .int p1)] [] G bc bs := by
  refine g_aload_n dX2_called_0 rfl 0 rfl ?_
  refine g_iload_n dX2_called_1 rfl 1 rfl ?_
  obtain ⟨c2, F⟩ := F
  refine h_callVI (ci := 1) (C := RX2) (T := TX2) (N := 30) (As := [.int p1]) (rest := []) F 1 rfl rfl (lw_V q2124 q2126 qs57 q117 q2127) vm_X2_isLeg (by decide) rfl c2 rfl (room_of sc_nil (Nat.le_of_ble_eq_true rfl)) dX2_called_2 (fun r1 Gr1 br1 sr1 F => ?_)
  refine g_if_ne 12 dX2_called_5 (by decide) (fun h11 => ?_) (fun h11 => ?_)
  · have F := F.1 h11
    refine g_aload_n dX2_called_12 rfl 0 rfl ?_
    refine g_iload_n dX2_called_13 rfl 1 rfl ?_
    obtain ⟨c5, F⟩ := F
    refine h_callVI (ci := 1) (C := RX2) (T := TX2) (N := 30) (As := [.int p1]) (rest := []) F 1 rfl rfl (lw_V q2325 q2327 qs87 q117 q2328) vm_X2_isOpen (by decide) rfl c5 rfl (room_of sc_nil (Nat.le_of_ble_eq_true rfl)) dX2_called_14 (fun r4 Gr4 br4 sr4 F => ?_)
    refine g_if_eq 28 dX2_called_17 (by decide) (fun h10 => ?_) (fun h10 => ?_)
    · have F := F.1 h10
      refine g_bipush (v := (-2)) dX2_called_28 (by decide) ?_
      exact g_iret rfl dX2_called_30 F
    · have F := F.2 h10
      refine g_aload_n dX2_called_20 rfl 0 rfl ?_
      refine g_iload_n dX2_called_21 rfl 1 rfl ?_
      obtain ⟨c8, F⟩ := F
      refine h_callVI (ci := 1) (C := RX2) (T := TX2) (N := 30) (As := [.int p1]) (rest := []) F 1 rfl rfl (lw_V q2361 q2363 qs90 q117 q2364) vm_X2_calledFor (by decide) rfl c8 rfl (room_of sc_nil (Nat.le_of_ble_eq_true rfl)) dX2_called_22 (fun r7 Gr7 br7 sr7 F => ?_)
      refine g_goto 30 dX2_called_25 (by decide) ?_
      exact g_iret rfl dX2_called_30 F
  · have F := F.2 h11
    refine g_iconst (v := (-1)) dX2_called_8 (by decide) ?_
    refine g_goto 30 dX2_called_9 (by decide) ?_
    exact g_iret rfl dX2_called_30 F
theorem rX2_calledFor_0 {Γ : GE} {l : Launch} {h MC MS : Nat} {Q : Option Value → GH → Prop} {bc bs : Nat} {G : GH} (x : Nat) (p1 : Int32) (F : (GW Γ l mX2_calledFor h MC MS Q 8 [(0, va_rf (some x)), (1, .int p1), (2, .int (-2)), (3, .int 0), (4, .int 0)] [] G bc bs)) : GW Γ l mX2_calledFor h MC MS Q 0 [(0, va_rf (some x)), (1, .int p1)] [] G bc bs := by
  refine g_bipush (v := (-2)) dX2_calledFor_0 (by decide) ?_
  refine s_istore_n (lv' := [(0, va_rf (some x)), (1, .int p1), (2, .int (-2))]) (cat_R (cat_I cat_nil)) dX2_calledFor_2 rfl (by decide) rfl [1, 2, 0] rfl ?_
  refine g_iconst (v := 0) dX2_calledFor_3 (by decide) ?_
  refine s_istore_n (lv' := [(0, va_rf (some x)), (1, .int p1), (2, .int (-2)), (3, .int 0)]) (cat_R (cat_I (cat_I cat_nil))) dX2_calledFor_4 rfl (by decide) rfl [1, 2, 3, 0] rfl ?_
  refine g_iconst (v := 0) dX2_calledFor_5 (by decide) ?_
  refine s_istore (lv' := [(0, va_rf (some x)), (1, .int p1), (2, .int (-2)), (3, .int 0), (4, .int 0)]) (cat_R (cat_I (cat_I (cat_I cat_nil)))) dX2_calledFor_6 (by decide) rfl [1, 2, 3, 4, 0] rfl ?_
  exact F
theorem rX2_calledFor_8 {Γ : GE} {l : Launch} {h MC MS : Nat} {Q : Option Value → GH → Prop} {bc bs : Nat} {G : GH} (x : Nat) (p1 : Int32) (p2 : Int32) (p3 : Int32) (p4 : Int32) (F : (gC G x = kO 1 ∧ ∃ a2, (gR G x 0) = some a2 ∧ gC G a2 = kA 0 ∧ vp_in 1 (gL G a2) ∧ (((gI G a2 (1 : Int32).toNatClampNeg) ≤ p4 → (Q (some (.int p2)) G)) ∧ (¬ (gI G a2 (1 : Int32).toNatClampNeg) ≤ p4 → (cI Γ l h mX2_isReserve [.ref x, .int p4] G bc bs fun r6 Gr6 br6 sr6 => ((r6 = 0 → (GW Γ l mX2_calledFor h MC MS Q 68 [(0, va_rf (some x)), (1, .int p1), (2, .int p2), (3, .int p3), (4, .int p4)] [.int 0] Gr6 br6 sr6)) ∧ (¬ r6 = 0 → (gC Gr6 x = kO 1 ∧ cI Γ l h mX2_of [.ref x, .int p1, .int 2] Gr6 br6 sr6 fun r8 Gr8 br8 sr8 => gC Gr8 x = kO 1 ∧ cI Γ l h mX2_ofCrew [.ref x, .int p4, .int 1] Gr8 br8 sr8 fun r11 Gr11 br11 sr11 => ((r8 < (r11 + 120) → (GW Γ l mX2_calledFor h MC MS Q 68 [(0, va_rf (some x)), (1, .int p1), (2, .int p2), (3, .int p3), (4, .int p4)] [.int 0] Gr11 br11 sr11)) ∧ (¬ r8 < (r11 + 120) → (gC Gr11 x = kO 1 ∧ cI Γ l h mX2_of [.ref x, .int p1, .int 3] Gr11 br11 sr11 fun r14 Gr14 br14 sr14 => gC Gr14 x = kO 1 ∧ cI Γ l h mX2_ofCrew [.ref x, .int p4, .int 2] Gr14 br14 sr14 fun r17 Gr17 br17 sr17 => ((r17 < r14 → (GW Γ l mX2_calledFor h MC MS Q 68 [(0, va_rf (some x)), (1, .int p1), (2, .int p2), (3, .int p3), (4, .int p4)] [.int 0] Gr17 br17 sr17)) ∧ (¬ r17 < r14 → (GW Γ l mX2_calledFor h MC MS Q 68 [(0, va_rf (some x)), (1, .int p1), (2, .int p2), (3, .int p3), (4, .int p4)] [.int 1] Gr17 br17 sr17)))))))))))))) : GW Γ l mX2_calledFor h MC MS Q 8 [(0, va_rf (some x)), (1, .int p1), (2, .int p2), (3, .int p3), (4, .int p4)] [] G bc bs := by
  refine g_iload dX2_calledFor_8 4 rfl ?_
  refine g_aload_n dX2_calledFor_10 rfl 0 rfl ?_
  obtain ⟨c1, F⟩ := F
  refine h_get (v := va_rf (gR G x 0)) 1 0 (C := RX2) (T := TX2) (N := 30) rfl in_X2 (by decide) q1989 (Or.inl rfl) rfl c1 rfl dX2_calledFor_11 ?_
  refine g_iconst (v := 1) dX2_calledFor_14 (by decide) ?_
  obtain ⟨a2, e3, F⟩ := F
  obtain ⟨c4, F⟩ := F
  obtain ⟨k5, F⟩ := F
  refine h_iald e3 c4 k5 dX2_calledFor_15 ?_
  refine g_icmp_ge 141 dX2_calledFor_16 (by decide) (fun h23 => ?_) (fun h23 => ?_)
  · have F := F.1 h23
    refine g_iload_n dX2_calledFor_141 rfl 2 rfl ?_
    exact g_iret rfl dX2_calledFor_142 F
  · have F := F.2 h23
    refine g_aload_n dX2_calledFor_19 rfl 0 rfl ?_
    refine g_iload dX2_calledFor_20 4 rfl ?_
    refine h_callVI (ci := 1) (C := RX2) (T := TX2) (N := 30) (As := [.int p4]) (rest := []) F 1 rfl rfl (lw_V q2349 q2351 qs89 q117 q2352) vm_X2_isReserve (by decide) rfl c1 rfl (room_of sc_nil (Nat.le_of_ble_eq_true rfl)) dX2_calledFor_22 (fun r6 Gr6 br6 sr6 F => ?_)
    refine g_if_eq 67 dX2_calledFor_25 (by decide) (fun h22 => ?_) (fun h22 => ?_)
    · have F := F.1 h22
      refine g_iconst (v := 0) dX2_calledFor_67 (by decide) ?_
      exact F
    · have F := F.2 h22
      refine g_aload_n dX2_calledFor_28 rfl 0 rfl ?_
      refine g_iload_n dX2_calledFor_29 rfl 1 rfl ?_
      refine g_iconst (v := 2) dX2_calledFor_30 (by decide) ?_
      obtain ⟨c9, F⟩ := F
      refine h_callVI (ci := 1) (C := RX2) (T := TX2) (N := 30) (As := [.int p1, .int 2]) (rest := []) F 2 rfl rfl (lw_V q2093 q2095 qs54 q117 q2096) vm_X2_of (by decide) rfl c9 rfl (room_of sc_nil (Nat.le_of_ble_eq_true rfl)) dX2_calledFor_31 (fun r8 Gr8 br8 sr8 F => ?_)
      refine g_aload_n dX2_calledFor_34 rfl 0 rfl ?_
      refine g_iload dX2_calledFor_35 4 rfl ?_
      refine g_iconst (v := 1) dX2_calledFor_37 (by decide) ?_
      obtain ⟨c12, F⟩ := F
      refine h_callVI (ci := 1) (C := RX2) (T := TX2) (N := 30) (As := [.int p4, .int 1]) (rest := [.int r8]) F 2 rfl rfl (lw_V q2136 q2138 qs60 q117 q2139) vm_X2_ofCrew (by decide) rfl c12 rfl (room_of (sc_I sc_nil) (Nat.le_of_ble_eq_true rfl)) dX2_calledFor_38 (fun r11 Gr11 br11 sr11 F => ?_)
      refine g_bipush (v := 120) dX2_calledFor_41 (by decide) ?_
      refine g_iadd dX2_calledFor_43 ?_
      refine g_icmp_lt 67 dX2_calledFor_44 (by decide) (fun h21 => ?_) (fun h21 => ?_)
      · have F := F.1 h21
        refine g_iconst (v := 0) dX2_calledFor_67 (by decide) ?_
        exact F
      · have F := F.2 h21
        refine g_aload_n dX2_calledFor_47 rfl 0 rfl ?_
        refine g_iload_n dX2_calledFor_48 rfl 1 rfl ?_
        refine g_iconst (v := 3) dX2_calledFor_49 (by decide) ?_
        obtain ⟨c15, F⟩ := F
        refine h_callVI (ci := 1) (C := RX2) (T := TX2) (N := 30) (As := [.int p1, .int 3]) (rest := []) F 2 rfl rfl (lw_V q2093 q2095 qs54 q117 q2096) vm_X2_of (by decide) rfl c15 rfl (room_of sc_nil (Nat.le_of_ble_eq_true rfl)) dX2_calledFor_50 (fun r14 Gr14 br14 sr14 F => ?_)
        refine g_aload_n dX2_calledFor_53 rfl 0 rfl ?_
        refine g_iload dX2_calledFor_54 4 rfl ?_
        refine g_iconst (v := 2) dX2_calledFor_56 (by decide) ?_
        obtain ⟨c18, F⟩ := F
        refine h_callVI (ci := 1) (C := RX2) (T := TX2) (N := 30) (As := [.int p4, .int 2]) (rest := [.int r14]) F 2 rfl rfl (lw_V q2136 q2138 qs60 q117 q2139) vm_X2_ofCrew (by decide) rfl c18 rfl (room_of (sc_I sc_nil) (Nat.le_of_ble_eq_true rfl)) dX2_calledFor_57 (fun r17 Gr17 br17 sr17 F => ?_)
        refine g_icmp_gt 67 dX2_calledFor_60 (by decide) (fun h20 => ?_) (fun h20 => ?_)
        · have F := F.1 h20
          refine g_iconst (v := 0) dX2_calledFor_67 (by decide) ?_
          exact F
        · have F := F.2 h20
          refine g_iconst (v := 1) dX2_calledFor_63 (by decide) ?_
          refine g_goto 68 dX2_calledFor_64 (by decide) ?_
          exact F
theorem rX2_calledFor_68 {Γ : GE} {l : Launch} {h MC MS : Nat} {Q : Option Value → GH → Prop} {bc bs : Nat} {G : GH} (x : Nat) (p1 : Int32) (p2 : Int32) (p3 : Int32) (p4 : Int32) (s0 : Int32) (F : ((s0 = 0 → (GW Γ l mX2_calledFor h MC MS Q 8 [(0, va_rf (some x)), (1, .int p1), (2, .int p2), (3, .int p3), (4, .int (p4 + 1))] [] G bc bs)) ∧ (¬ s0 = 0 → (gC G x = kO 1 ∧ cI Γ l h mX2_hinders [.ref x, .int p4, .int p1, .int 1] G bc bs fun r1 Gr1 br1 sr1 => ((¬ r1 = 0 → (GW Γ l mX2_calledFor h MC MS Q 8 [(0, va_rf (some x)), (1, .int p1), (2, .int p2), (3, .int p3), (4, .int (p4 + 1))] [] Gr1 br1 sr1)) ∧ (r1 = 0 → (gC Gr1 x = kO 1 ∧ cI Γ l h mX2_minutesOf [.ref x, .int p4] Gr1 br1 sr1 fun r4 Gr4 br4 sr4 => ((p2 < 0 → (GW Γ l mX2_calledFor h MC MS Q 109 [(0, va_rf (some x)), (1, .int p1), (2, .int p2), (3, .int p3), (4, .int p4), (5, .int s0), (6, .int r4)] [.int 1] Gr4 br4 sr4)) ∧ (¬ p2 < 0 → ((p3 ≤ r4 → (GW Γ l mX2_calledFor h MC MS Q 109 [(0, va_rf (some x)), (1, .int p1), (2, .int p2), (3, .int p3), (4, .int p4), (5, .int s0), (6, .int r4)] [.int 0] Gr4 br4 sr4)) ∧ (¬ p3 ≤ r4 → (GW Γ l mX2_calledFor h MC MS Q 109 [(0, va_rf (some x)), (1, .int p1), (2, .int p2), (3, .int p3), (4, .int p4), (5, .int s0), (6, .int r4)] [.int 1] Gr4 br4 sr4)))))))))))) : GW Γ l mX2_calledFor h MC MS Q 68 [(0, va_rf (some x)), (1, .int p1), (2, .int p2), (3, .int p3), (4, .int p4)] [.int s0] G bc bs := by
  refine s_istore (lv' := [(0, va_rf (some x)), (1, .int p1), (2, .int p2), (3, .int p3), (4, .int p4), (5, .int s0)]) (cat_R (cat_I (cat_I (cat_I (cat_I cat_nil))))) dX2_calledFor_68 (by decide) rfl [1, 2, 3, 4, 5, 0] rfl ?_
  refine g_iload dX2_calledFor_70 5 rfl ?_
  refine g_if_eq 135 dX2_calledFor_72 (by decide) (fun h10 => ?_) (fun h10 => ?_)
  · have F := F.1 h10
    refine s_iinc (v := (p4 + 1)) (lv' := [(0, va_rf (some x)), (1, .int p1), (2, .int p2), (3, .int p3), (4, .int (p4 + 1)), (5, .int s0)]) (cat_R (cat_I (cat_I (cat_I (cat_I (cat_I cat_nil)))))) dX2_calledFor_135 (k0 := 4) rfl rfl (by decide) rfl [1, 2, 3, 4, 0, 5] rfl ?_
    refine g_goto 8 dX2_calledFor_138 (by decide) ?_
    refine GW.lsub (lv' := [(0, va_rf (some x)), (1, .int p1), (2, .int p2), (3, .int p3), (4, .int (p4 + 1))]) [0, 1, 2, 3, 4] rfl ?_
    exact F
  · have F := F.2 h10
    refine g_aload_n dX2_calledFor_75 rfl 0 rfl ?_
    refine g_iload dX2_calledFor_76 4 rfl ?_
    refine g_iload_n dX2_calledFor_78 rfl 1 rfl ?_
    refine g_iconst (v := 1) dX2_calledFor_79 (by decide) ?_
    obtain ⟨c2, F⟩ := F
    refine h_callVI (ci := 1) (C := RX2) (T := TX2) (N := 30) (As := [.int p4, .int p1, .int 1]) (rest := []) F 3 rfl rfl (lw_V q2164 q2166 qs63 q117 q2167) vm_X2_hinders (by decide) rfl c2 rfl (room_of sc_nil (Nat.le_of_ble_eq_true rfl)) dX2_calledFor_80 (fun r1 Gr1 br1 sr1 F => ?_)
    refine g_if_ne 135 dX2_calledFor_83 (by decide) (fun h9 => ?_) (fun h9 => ?_)
    · have F := F.1 h9
      refine s_iinc (v := (p4 + 1)) (lv' := [(0, va_rf (some x)), (1, .int p1), (2, .int p2), (3, .int p3), (4, .int (p4 + 1)), (5, .int s0)]) (cat_R (cat_I (cat_I (cat_I (cat_I (cat_I cat_nil)))))) dX2_calledFor_135 (k0 := 4) rfl rfl (by decide) rfl [1, 2, 3, 4, 0, 5] rfl ?_
      refine g_goto 8 dX2_calledFor_138 (by decide) ?_
      refine GW.lsub (lv' := [(0, va_rf (some x)), (1, .int p1), (2, .int p2), (3, .int p3), (4, .int (p4 + 1))]) [0, 1, 2, 3, 4] rfl ?_
      exact F
    · have F := F.2 h9
      refine g_aload_n dX2_calledFor_86 rfl 0 rfl ?_
      refine g_iload dX2_calledFor_87 4 rfl ?_
      obtain ⟨c5, F⟩ := F
      refine h_callVI (ci := 1) (C := RX2) (T := TX2) (N := 30) (As := [.int p4]) (rest := []) F 1 rfl rfl (lw_V q2289 q2291 qs83 q117 q2292) vm_X2_minutesOf (by decide) rfl c5 rfl (room_of sc_nil (Nat.le_of_ble_eq_true rfl)) dX2_calledFor_89 (fun r4 Gr4 br4 sr4 F => ?_)
      refine s_istore (lv' := [(0, va_rf (some x)), (1, .int p1), (2, .int p2), (3, .int p3), (4, .int p4), (5, .int s0), (6, .int r4)]) (cat_R (cat_I (cat_I (cat_I (cat_I (cat_I cat_nil)))))) dX2_calledFor_92 (by decide) rfl [1, 2, 3, 4, 5, 6, 0] rfl ?_
      refine g_iload_n dX2_calledFor_94 rfl 2 rfl ?_
      refine g_if_lt 104 dX2_calledFor_95 (by decide) (fun h8 => ?_) (fun h8 => ?_)
      · have F := F.1 h8
        refine g_iconst (v := 1) dX2_calledFor_104 (by decide) ?_
        refine g_goto 109 dX2_calledFor_105 (by decide) ?_
        exact F
      · have F := F.2 h8
        refine g_iload dX2_calledFor_98 6 rfl ?_
        refine g_iload_n dX2_calledFor_100 rfl 3 rfl ?_
        refine g_icmp_ge 108 dX2_calledFor_101 (by decide) (fun h7 => ?_) (fun h7 => ?_)
        · have F := F.1 h7
          refine g_iconst (v := 0) dX2_calledFor_108 (by decide) ?_
          exact F
        · have F := F.2 h7
          refine g_iconst (v := 1) dX2_calledFor_104 (by decide) ?_
          refine g_goto 109 dX2_calledFor_105 (by decide) ?_
          exact F
theorem rX2_calledFor_109 {Γ : GE} {l : Launch} {h MC MS : Nat} {Q : Option Value → GH → Prop} {bc bs : Nat} {G : GH} (x : Nat) (p1 : Int32) (p2 : Int32) (p3 : Int32) (p4 : Int32) (p5 : Int32) (p6 : Int32) (s0 : Int32) (F : ((s0 = 0 → ((s0 = 0 → (GW Γ l mX2_calledFor h MC MS Q 8 [(0, va_rf (some x)), (1, .int p1), (2, .int p2), (3, .int p3), (4, .int (p4 + 1))] [] G bc bs)) ∧ (¬ s0 = 0 → (GW Γ l mX2_calledFor h MC MS Q 8 [(0, va_rf (some x)), (1, .int p1), (2, .int p2), (3, .int p6), (4, .int (p4 + 1))] [] G bc bs)))) ∧ (¬ s0 = 0 → ((s0 = 0 → (GW Γ l mX2_calledFor h MC MS Q 8 [(0, va_rf (some x)), (1, .int p1), (2, .int p4), (3, .int p3), (4, .int (p4 + 1))] [] G bc bs)) ∧ (¬ s0 = 0 → (GW Γ l mX2_calledFor h MC MS Q 8 [(0, va_rf (some x)), (1, .int p1), (2, .int p4), (3, .int p6), (4, .int (p4 + 1))] [] G bc bs)))))) : GW Γ l mX2_calledFor h MC MS Q 109 [(0, va_rf (some x)), (1, .int p1), (2, .int p2), (3, .int p3), (4, .int p4), (5, .int p5), (6, .int p6)] [.int s0] G bc bs := by
  refine s_istore (lv' := [(0, va_rf (some x)), (1, .int p1), (2, .int p2), (3, .int p3), (4, .int p4), (5, .int p5), (6, .int p6), (7, .int s0)]) (cat_R (cat_I (cat_I (cat_I (cat_I (cat_I (cat_I cat_nil))))))) dX2_calledFor_109 (by decide) rfl [1, 2, 3, 4, 5, 6, 7, 0] rfl ?_
  refine g_iload dX2_calledFor_111 7 rfl ?_
  refine g_if_eq 121 dX2_calledFor_113 (by decide) (fun h3 => ?_) (fun h3 => ?_)
  · have F := F.1 h3
    refine g_iload_n dX2_calledFor_121 rfl 2 rfl ?_
    refine s_istore_n (lv' := [(0, va_rf (some x)), (1, .int p1), (2, .int p2), (3, .int p3), (4, .int p4), (5, .int p5), (6, .int p6), (7, .int s0)]) (cat_R (cat_I (cat_I (cat_I (cat_I (cat_I (cat_I (cat_I cat_nil)))))))) dX2_calledFor_122 rfl (by decide) rfl [1, 2, 0, 3, 4, 5, 6, 7] rfl ?_
    refine g_iload dX2_calledFor_123 7 rfl ?_
    refine g_if_eq 133 dX2_calledFor_125 (by decide) (fun h1 => ?_) (fun h1 => ?_)
    · have F := F.1 h1
      refine g_iload_n dX2_calledFor_133 rfl 3 rfl ?_
      refine s_istore_n (lv' := [(0, va_rf (some x)), (1, .int p1), (2, .int p2), (3, .int p3), (4, .int p4), (5, .int p5), (6, .int p6), (7, .int s0)]) (cat_R (cat_I (cat_I (cat_I (cat_I (cat_I (cat_I (cat_I cat_nil)))))))) dX2_calledFor_134 rfl (by decide) rfl [1, 2, 3, 0, 4, 5, 6, 7] rfl ?_
      refine s_iinc (v := (p4 + 1)) (lv' := [(0, va_rf (some x)), (1, .int p1), (2, .int p2), (3, .int p3), (4, .int (p4 + 1)), (5, .int p5), (6, .int p6), (7, .int s0)]) (cat_R (cat_I (cat_I (cat_I (cat_I (cat_I (cat_I (cat_I cat_nil)))))))) dX2_calledFor_135 (k0 := 4) rfl rfl (by decide) rfl [1, 2, 3, 4, 0, 5, 6, 7] rfl ?_
      refine g_goto 8 dX2_calledFor_138 (by decide) ?_
      refine GW.lsub (lv' := [(0, va_rf (some x)), (1, .int p1), (2, .int p2), (3, .int p3), (4, .int (p4 + 1))]) [0, 1, 2, 3, 4] rfl ?_
      exact F
    · have F := F.2 h1
      refine g_iload dX2_calledFor_128 6 rfl ?_
      refine g_goto 134 dX2_calledFor_130 (by decide) ?_
      refine s_istore_n (lv' := [(0, va_rf (some x)), (1, .int p1), (2, .int p2), (3, .int p6), (4, .int p4), (5, .int p5), (6, .int p6), (7, .int s0)]) (cat_R (cat_I (cat_I (cat_I (cat_I (cat_I (cat_I (cat_I cat_nil)))))))) dX2_calledFor_134 rfl (by decide) rfl [1, 2, 3, 0, 4, 5, 6, 7] rfl ?_
      refine s_iinc (v := (p4 + 1)) (lv' := [(0, va_rf (some x)), (1, .int p1), (2, .int p2), (3, .int p6), (4, .int (p4 + 1)), (5, .int p5), (6, .int p6), (7, .int s0)]) (cat_R (cat_I (cat_I (cat_I (cat_I (cat_I (cat_I (cat_I cat_nil)))))))) dX2_calledFor_135 (k0 := 4) rfl rfl (by decide) rfl [1, 2, 3, 4, 0, 5, 6, 7] rfl ?_
      refine g_goto 8 dX2_calledFor_138 (by decide) ?_
      refine GW.lsub (lv' := [(0, va_rf (some x)), (1, .int p1), (2, .int p2), (3, .int p6), (4, .int (p4 + 1))]) [0, 1, 2, 3, 4] rfl ?_
      exact F
  · have F := F.2 h3
    refine g_iload dX2_calledFor_116 4 rfl ?_
    refine g_goto 122 dX2_calledFor_118 (by decide) ?_
    refine s_istore_n (lv' := [(0, va_rf (some x)), (1, .int p1), (2, .int p4), (3, .int p3), (4, .int p4), (5, .int p5), (6, .int p6), (7, .int s0)]) (cat_R (cat_I (cat_I (cat_I (cat_I (cat_I (cat_I (cat_I cat_nil)))))))) dX2_calledFor_122 rfl (by decide) rfl [1, 2, 0, 3, 4, 5, 6, 7] rfl ?_
    refine g_iload dX2_calledFor_123 7 rfl ?_
    refine g_if_eq 133 dX2_calledFor_125 (by decide) (fun h2 => ?_) (fun h2 => ?_)
    · have F := F.1 h2
      refine g_iload_n dX2_calledFor_133 rfl 3 rfl ?_
      refine s_istore_n (lv' := [(0, va_rf (some x)), (1, .int p1), (2, .int p4), (3, .int p3), (4, .int p4), (5, .int p5), (6, .int p6), (7, .int s0)]) (cat_R (cat_I (cat_I (cat_I (cat_I (cat_I (cat_I (cat_I cat_nil)))))))) dX2_calledFor_134 rfl (by decide) rfl [1, 2, 3, 0, 4, 5, 6, 7] rfl ?_
      refine s_iinc (v := (p4 + 1)) (lv' := [(0, va_rf (some x)), (1, .int p1), (2, .int p4), (3, .int p3), (4, .int (p4 + 1)), (5, .int p5), (6, .int p6), (7, .int s0)]) (cat_R (cat_I (cat_I (cat_I (cat_I (cat_I (cat_I (cat_I cat_nil)))))))) dX2_calledFor_135 (k0 := 4) rfl rfl (by decide) rfl [1, 2, 3, 4, 0, 5, 6, 7] rfl ?_
      refine g_goto 8 dX2_calledFor_138 (by decide) ?_
      refine GW.lsub (lv' := [(0, va_rf (some x)), (1, .int p1), (2, .int p4), (3, .int p3), (4, .int (p4 + 1))]) [0, 1, 2, 3, 4] rfl ?_
      exact F
    · have F := F.2 h2
      refine g_iload dX2_calledFor_128 6 rfl ?_
      refine g_goto 134 dX2_calledFor_130 (by decide) ?_
      refine s_istore_n (lv' := [(0, va_rf (some x)), (1, .int p1), (2, .int p4), (3, .int p6), (4, .int p4), (5, .int p5), (6, .int p6), (7, .int s0)]) (cat_R (cat_I (cat_I (cat_I (cat_I (cat_I (cat_I (cat_I cat_nil)))))))) dX2_calledFor_134 rfl (by decide) rfl [1, 2, 3, 0, 4, 5, 6, 7] rfl ?_
      refine s_iinc (v := (p4 + 1)) (lv' := [(0, va_rf (some x)), (1, .int p1), (2, .int p4), (3, .int p6), (4, .int (p4 + 1)), (5, .int p5), (6, .int p6), (7, .int s0)]) (cat_R (cat_I (cat_I (cat_I (cat_I (cat_I (cat_I (cat_I cat_nil)))))))) dX2_calledFor_135 (k0 := 4) rfl rfl (by decide) rfl [1, 2, 3, 4, 0, 5, 6, 7] rfl ?_
      refine g_goto 8 dX2_calledFor_138 (by decide) ?_
      refine GW.lsub (lv' := [(0, va_rf (some x)), (1, .int p1), (2, .int p4), (3, .int p6), (4, .int (p4 + 1))]) [0, 1, 2, 3, 4] rfl ?_
      exact F
theorem rX2_pair_0 {Γ : GE} {l : Launch} {h MC MS : Nat} {Q : Option Value → GH → Prop} {bc bs : Nat} {G : GH} (x : Nat) (F : (gC G x = kO 1 ∧ cV Γ l h mX2_change [.ref x] G bc bs fun Gr1 br1 sr1 => gC Gr1 x = kO 1 ∧ cV Γ l h mX2_findOpen [.ref x] Gr1 br1 sr1 fun Gr4 br4 sr4 => gC Gr4 x = kO 1 ∧ ∃ a8, (gR Gr4 x 10) = some a8 ∧ gC Gr4 a8 = kA 0 ∧ gM Gr4 a8 = true ∧ ∃ a12, (gR Gr4 x 16) = some a12 ∧ gC Gr4 a12 = kA 0 ∧ gM Gr4 a12 = true ∧ (0 : Int32).toNatClampNeg + (25 : Int32).toNatClampNeg ≤ gL Gr4 a8 ∧ (0 : Int32).toNatClampNeg + (25 : Int32).toNatClampNeg ≤ gL Gr4 a12 ∧ 0 < h ∧ ∀ H19, H19 = (wI Gr4 a12 (va_cpy (gI Gr4 a8) (gI Gr4 a12) (0 : Int32).toNatClampNeg (0 : Int32).toNatClampNeg (25 : Int32).toNatClampNeg)) → GW Γ l mX2_pair h MC MS Q 32 [(0, va_rf (some x)), (1, .int (gI Gr4 x 11)), (2, .int 0), (3, .int 0)] [] H19 br4 sr4)) : GW Γ l mX2_pair h MC MS Q 0 [(0, va_rf (some x))] [] G bc bs := by
  refine g_aload_n dX2_pair_0 rfl 0 rfl ?_
  obtain ⟨c2, F⟩ := F
  refine h_callVV (ci := 1) (C := RX2) (T := TX2) (N := 30) (As := []) (rest := []) F 0 rfl rfl (lw_V q2097 q2099 qs55 q117 q2100) vm_X2_change (by decide) rfl c2 rfl (room_of sc_nil (Nat.le_of_ble_eq_true rfl)) dX2_pair_1 (fun Gr1 br1 sr1 F => ?_)
  refine g_aload_n dX2_pair_4 rfl 0 rfl ?_
  obtain ⟨c5, F⟩ := F
  refine h_callVV (ci := 1) (C := RX2) (T := TX2) (N := 30) (As := []) (rest := []) F 0 rfl rfl (lw_V q2321 q2323 qs86 q117 q2324) vm_X2_findOpen (by decide) rfl c5 rfl (room_of sc_nil (Nat.le_of_ble_eq_true rfl)) dX2_pair_5 (fun Gr4 br4 sr4 F => ?_)
  refine g_aload_n dX2_pair_8 rfl 0 rfl ?_
  obtain ⟨c7, F⟩ := F
  refine h_get (v := .int (gI Gr4 x 11)) 1 11 (C := RX2) (T := TX2) (N := 30) rfl in_X2 (by decide) q2000 (Or.inl rfl) rfl c7 rfl dX2_pair_9 ?_
  refine s_istore_n (lv' := [(0, va_rf (some x)), (1, .int (gI Gr4 x 11))]) (cat_R cat_nil) dX2_pair_12 rfl (by decide) rfl [1, 0] rfl ?_
  refine g_aload_n dX2_pair_13 rfl 0 rfl ?_
  refine h_get (v := va_rf (gR Gr4 x 10)) 1 10 (C := RX2) (T := TX2) (N := 30) rfl in_X2 (by decide) q1999 (Or.inl rfl) rfl c7 rfl dX2_pair_14 ?_
  refine g_iconst (v := 0) dX2_pair_17 (by decide) ?_
  refine g_aload_n dX2_pair_18 rfl 0 rfl ?_
  refine h_get (v := va_rf (gR Gr4 x 16)) 1 16 (C := RX2) (T := TX2) (N := 30) rfl in_X2 (by decide) q2005 (Or.inl rfl) rfl c7 rfl dX2_pair_19 ?_
  refine g_iconst (v := 0) dX2_pair_22 (by decide) ?_
  refine g_bipush (v := 25) dX2_pair_23 (by decide) ?_
  obtain ⟨a8, e9, F⟩ := F
  obtain ⟨c10, F⟩ := F
  obtain ⟨m11, F⟩ := F
  obtain ⟨a12, e13, F⟩ := F
  obtain ⟨c14, F⟩ := F
  obtain ⟨m15, F⟩ := F
  obtain ⟨k16, F⟩ := F
  obtain ⟨k17, F⟩ := F
  obtain ⟨k18, F⟩ := F
  refine h_copyi 0 (by decide) q1988 q439 q438 q118 e9 c10 m11 e13 c14 m15 (by decide) (by decide) (by decide) k16 k17 (fun _ _ => rfl) k18 (room_of sc_nil (Nat.le_of_ble_eq_true rfl)) dX2_pair_25 ?_
  obtain ⟨H19, h20⟩ : ∃ g : GH, g = (wI Gr4 a12 (va_cpy (gI Gr4 a8) (gI Gr4 a12) (0 : Int32).toNatClampNeg (0 : Int32).toNatClampNeg (25 : Int32).toNatClampNeg)) := ⟨_, rfl⟩
  rw [← h20]
  have F := F H19 h20
  refine g_iconst (v := 0) dX2_pair_28 (by decide) ?_
  refine s_istore_n (lv' := [(0, va_rf (some x)), (1, .int (gI Gr4 x 11)), (2, .int 0)]) (cat_R (cat_I cat_nil)) dX2_pair_29 rfl (by decide) rfl [1, 2, 0] rfl ?_
  refine g_iconst (v := 0) dX2_pair_30 (by decide) ?_
  refine s_istore_n (lv' := [(0, va_rf (some x)), (1, .int (gI Gr4 x 11)), (2, .int 0), (3, .int 0)]) (cat_R (cat_I (cat_I cat_nil))) dX2_pair_31 rfl (by decide) rfl [1, 2, 3, 0] rfl ?_
  exact F
theorem rX2_pair_32 {Γ : GE} {l : Launch} {h MC MS : Nat} {Q : Option Value → GH → Prop} {bc bs : Nat} {G : GH} (x : Nat) (p1 : Int32) (p2 : Int32) (p3 : Int32) (F : ((p1 ≤ p3 → (Q (some (.int p2)) G)) ∧ (¬ p1 ≤ p3 → (gC G x = kO 1 ∧ ∃ a2, (gR G x 16) = some a2 ∧ gC G a2 = kA 0 ∧ vp_in p3 (gL G a2) ∧ cV Γ l h mX2_findOffer [.ref x, .int (gI G a2 p3.toNatClampNeg)] G bc bs fun Gr6 br6 sr6 => gC Gr6 x = kO 1 ∧ (((gI Gr6 x 12) < 0 → (GW Γ l mX2_pair h MC MS Q 32 [(0, va_rf (some x)), (1, .int p1), (2, .int p2), (3, .int (p3 + 1))] [] Gr6 br6 sr6)) ∧ (¬ (gI Gr6 x 12) < 0 → (((gI Gr6 x 13) < 0 → (∃ a9, (gR Gr6 x 16) = some a9 ∧ gC Gr6 a9 = kA 0 ∧ vp_in p3 (gL Gr6 a9) ∧ cI Γ l h mX2_enter [.ref x, .int (gI Gr6 x 12), .int (gI Gr6 a9 p3.toNatClampNeg), .int 1] Gr6 br6 sr6 fun r13 Gr13 br13 sr13 => GW Γ l mX2_pair h MC MS Q 32 [(0, va_rf (some x)), (1, .int p1), (2, .int (p2 + 1)), (3, .int (p3 + 1))] [] Gr13 br13 sr13)) ∧ (¬ (gI Gr6 x 13) < 0 → (cI Γ l h mX2_enter [.ref x, .int (gI Gr6 x 12), .int (gI Gr6 x 13), .int 0] Gr6 br6 sr6 fun r15 Gr15 br15 sr15 => gC Gr15 x = kO 1 ∧ ∃ a18, (gR Gr15 x 16) = some a18 ∧ gC Gr15 a18 = kA 0 ∧ vp_in p3 (gL Gr15 a18) ∧ cI Γ l h mX2_enter [.ref x, .int (gI Gr15 x 12), .int (gI Gr15 a18 p3.toNatClampNeg), .int 1] Gr15 br15 sr15 fun r22 Gr22 br22 sr22 => GW Γ l mX2_pair h MC MS Q 32 [(0, va_rf (some x)), (1, .int p1), (2, .int (p2 + 1)), (3, .int (p3 + 1))] [] Gr22 br22 sr22))))))))) : GW Γ l mX2_pair h MC MS Q 32 [(0, va_rf (some x)), (1, .int p1), (2, .int p2), (3, .int p3)] [] G bc bs := by
  refine g_iload_n dX2_pair_32 rfl 3 rfl ?_
  refine g_iload_n dX2_pair_33 rfl 1 rfl ?_
  refine g_icmp_ge 102 dX2_pair_34 (by decide) (fun h26 => ?_) (fun h26 => ?_)
  · have F := F.1 h26
    refine g_iload_n dX2_pair_102 rfl 2 rfl ?_
    exact g_iret rfl dX2_pair_103 F
  · have F := F.2 h26
    refine g_aload_n dX2_pair_37 rfl 0 rfl ?_
    refine g_aload_n dX2_pair_38 rfl 0 rfl ?_
    obtain ⟨c1, F⟩ := F
    refine h_get (v := va_rf (gR G x 16)) 1 16 (C := RX2) (T := TX2) (N := 30) rfl in_X2 (by decide) q2005 (Or.inl rfl) rfl c1 rfl dX2_pair_39 ?_
    refine g_iload_n dX2_pair_42 rfl 3 rfl ?_
    obtain ⟨a2, e3, F⟩ := F
    obtain ⟨c4, F⟩ := F
    obtain ⟨k5, F⟩ := F
    refine h_iald e3 c4 k5 dX2_pair_43 ?_
    refine h_callVV (ci := 1) (C := RX2) (T := TX2) (N := 30) (As := [.int (gI G a2 p3.toNatClampNeg)]) (rest := []) F 1 rfl rfl (lw_V q2369 q2371 qs91 q117 q2372) vm_X2_findOffer (by decide) rfl c1 rfl (room_of sc_nil (Nat.le_of_ble_eq_true rfl)) dX2_pair_44 (fun Gr6 br6 sr6 F => ?_)
    refine g_aload_n dX2_pair_47 rfl 0 rfl ?_
    obtain ⟨c8, F⟩ := F
    refine h_get (v := .int (gI Gr6 x 12)) 1 12 (C := RX2) (T := TX2) (N := 30) rfl in_X2 (by decide) q2001 (Or.inl rfl) rfl c8 rfl dX2_pair_48 ?_
    refine g_if_lt 96 dX2_pair_51 (by decide) (fun h25 => ?_) (fun h25 => ?_)
    · have F := F.1 h25
      refine s_iinc (v := (p3 + 1)) (lv' := [(0, va_rf (some x)), (1, .int p1), (2, .int p2), (3, .int (p3 + 1))]) (cat_R (cat_I (cat_I (cat_I cat_nil)))) dX2_pair_96 (k0 := 3) rfl rfl (by decide) rfl [1, 2, 3, 0] rfl ?_
      refine g_goto 32 dX2_pair_99 (by decide) ?_
      exact F
    · have F := F.2 h25
      refine g_aload_n dX2_pair_54 rfl 0 rfl ?_
      refine h_get (v := .int (gI Gr6 x 13)) 1 13 (C := RX2) (T := TX2) (N := 30) rfl in_X2 (by decide) q2002 (Or.inl rfl) rfl c8 rfl dX2_pair_55 ?_
      refine g_if_lt 76 dX2_pair_58 (by decide) (fun h24 => ?_) (fun h24 => ?_)
      · have F := F.1 h24
        refine g_aload_n dX2_pair_76 rfl 0 rfl ?_
        refine g_aload_n dX2_pair_77 rfl 0 rfl ?_
        refine h_get (v := .int (gI Gr6 x 12)) 1 12 (C := RX2) (T := TX2) (N := 30) rfl in_X2 (by decide) q2001 (Or.inl rfl) rfl c8 rfl dX2_pair_78 ?_
        refine g_aload_n dX2_pair_81 rfl 0 rfl ?_
        refine h_get (v := va_rf (gR Gr6 x 16)) 1 16 (C := RX2) (T := TX2) (N := 30) rfl in_X2 (by decide) q2005 (Or.inl rfl) rfl c8 rfl dX2_pair_82 ?_
        refine g_iload_n dX2_pair_85 rfl 3 rfl ?_
        obtain ⟨a9, e10, F⟩ := F
        obtain ⟨c11, F⟩ := F
        obtain ⟨k12, F⟩ := F
        refine h_iald e10 c11 k12 dX2_pair_86 ?_
        refine g_iconst (v := 1) dX2_pair_87 (by decide) ?_
        refine h_callVI (ci := 1) (C := RX2) (T := TX2) (N := 30) (As := [.int (gI Gr6 x 12), .int (gI Gr6 a9 p3.toNatClampNeg), .int 1]) (rest := []) F 3 rfl rfl (lw_V q2229 q2231 qs79 q117 q2232) vm_X2_enter (by decide) rfl c8 rfl (room_of sc_nil (Nat.le_of_ble_eq_true rfl)) dX2_pair_88 (fun r13 Gr13 br13 sr13 F => ?_)
        refine s_istore (lv' := [(0, va_rf (some x)), (1, .int p1), (2, .int p2), (3, .int p3), (4, .int r13)]) (cat_R (cat_I (cat_I (cat_I cat_nil)))) dX2_pair_91 (by decide) rfl [1, 2, 3, 4, 0] rfl ?_
        refine s_iinc (v := (p2 + 1)) (lv' := [(0, va_rf (some x)), (1, .int p1), (2, .int (p2 + 1)), (3, .int p3), (4, .int r13)]) (cat_R (cat_I (cat_I (cat_I (cat_I cat_nil))))) dX2_pair_93 (k0 := 2) rfl rfl (by decide) rfl [1, 2, 0, 3, 4] rfl ?_
        refine s_iinc (v := (p3 + 1)) (lv' := [(0, va_rf (some x)), (1, .int p1), (2, .int (p2 + 1)), (3, .int (p3 + 1)), (4, .int r13)]) (cat_R (cat_I (cat_I (cat_I (cat_I cat_nil))))) dX2_pair_96 (k0 := 3) rfl rfl (by decide) rfl [1, 2, 3, 0, 4] rfl ?_
        refine g_goto 32 dX2_pair_99 (by decide) ?_
        refine GW.lsub (lv' := [(0, va_rf (some x)), (1, .int p1), (2, .int (p2 + 1)), (3, .int (p3 + 1))]) [0, 1, 2, 3] rfl ?_
        exact F
      · have F := F.2 h24
        refine g_aload_n dX2_pair_61 rfl 0 rfl ?_
        refine g_aload_n dX2_pair_62 rfl 0 rfl ?_
        refine h_get (v := .int (gI Gr6 x 12)) 1 12 (C := RX2) (T := TX2) (N := 30) rfl in_X2 (by decide) q2001 (Or.inl rfl) rfl c8 rfl dX2_pair_63 ?_
        refine g_aload_n dX2_pair_66 rfl 0 rfl ?_
        refine h_get (v := .int (gI Gr6 x 13)) 1 13 (C := RX2) (T := TX2) (N := 30) rfl in_X2 (by decide) q2002 (Or.inl rfl) rfl c8 rfl dX2_pair_67 ?_
        refine g_iconst (v := 0) dX2_pair_70 (by decide) ?_
        refine h_callVI (ci := 1) (C := RX2) (T := TX2) (N := 30) (As := [.int (gI Gr6 x 12), .int (gI Gr6 x 13), .int 0]) (rest := []) F 3 rfl rfl (lw_V q2229 q2231 qs79 q117 q2232) vm_X2_enter (by decide) rfl c8 rfl (room_of sc_nil (Nat.le_of_ble_eq_true rfl)) dX2_pair_71 (fun r15 Gr15 br15 sr15 F => ?_)
        refine s_istore (lv' := [(0, va_rf (some x)), (1, .int p1), (2, .int p2), (3, .int p3), (4, .int r15)]) (cat_R (cat_I (cat_I (cat_I cat_nil)))) dX2_pair_74 (by decide) rfl [1, 2, 3, 4, 0] rfl ?_
        refine g_aload_n dX2_pair_76 rfl 0 rfl ?_
        refine g_aload_n dX2_pair_77 rfl 0 rfl ?_
        obtain ⟨c17, F⟩ := F
        refine h_get (v := .int (gI Gr15 x 12)) 1 12 (C := RX2) (T := TX2) (N := 30) rfl in_X2 (by decide) q2001 (Or.inl rfl) rfl c17 rfl dX2_pair_78 ?_
        refine g_aload_n dX2_pair_81 rfl 0 rfl ?_
        refine h_get (v := va_rf (gR Gr15 x 16)) 1 16 (C := RX2) (T := TX2) (N := 30) rfl in_X2 (by decide) q2005 (Or.inl rfl) rfl c17 rfl dX2_pair_82 ?_
        refine g_iload_n dX2_pair_85 rfl 3 rfl ?_
        obtain ⟨a18, e19, F⟩ := F
        obtain ⟨c20, F⟩ := F
        obtain ⟨k21, F⟩ := F
        refine h_iald e19 c20 k21 dX2_pair_86 ?_
        refine g_iconst (v := 1) dX2_pair_87 (by decide) ?_
        refine h_callVI (ci := 1) (C := RX2) (T := TX2) (N := 30) (As := [.int (gI Gr15 x 12), .int (gI Gr15 a18 p3.toNatClampNeg), .int 1]) (rest := []) F 3 rfl rfl (lw_V q2229 q2231 qs79 q117 q2232) vm_X2_enter (by decide) rfl c17 rfl (room_of sc_nil (Nat.le_of_ble_eq_true rfl)) dX2_pair_88 (fun r22 Gr22 br22 sr22 F => ?_)
        refine s_istore (lv' := [(0, va_rf (some x)), (1, .int p1), (2, .int p2), (3, .int p3), (4, .int r22)]) (cat_R (cat_I (cat_I (cat_I (cat_I cat_nil))))) dX2_pair_91 (by decide) rfl [1, 2, 3, 4, 0] rfl ?_
        refine s_iinc (v := (p2 + 1)) (lv' := [(0, va_rf (some x)), (1, .int p1), (2, .int (p2 + 1)), (3, .int p3), (4, .int r22)]) (cat_R (cat_I (cat_I (cat_I (cat_I cat_nil))))) dX2_pair_93 (k0 := 2) rfl rfl (by decide) rfl [1, 2, 0, 3, 4] rfl ?_
        refine s_iinc (v := (p3 + 1)) (lv' := [(0, va_rf (some x)), (1, .int p1), (2, .int (p2 + 1)), (3, .int (p3 + 1)), (4, .int r22)]) (cat_R (cat_I (cat_I (cat_I (cat_I cat_nil))))) dX2_pair_96 (k0 := 3) rfl rfl (by decide) rfl [1, 2, 3, 0, 4] rfl ?_
        refine g_goto 32 dX2_pair_99 (by decide) ?_
        refine GW.lsub (lv' := [(0, va_rf (some x)), (1, .int p1), (2, .int (p2 + 1)), (3, .int (p3 + 1))]) [0, 1, 2, 3] rfl ?_
        exact F
theorem rX2_findOffer_0 {Γ : GE} {l : Launch} {h MC MS : Nat} {Q : Option Value → GH → Prop} {bc bs : Nat} {G : GH} (x : Nat) (p1 : Int32) (F : (gC G x = kO 1 ∧ gM G x = true ∧ GW Γ l mX2_findOffer h MC MS Q 14 [(0, va_rf (some x)), (1, .int p1), (2, .int 0)] [] (sI (sI G x 12 (-2)) x 13 (-2)) bc bs)) : GW Γ l mX2_findOffer h MC MS Q 0 [(0, va_rf (some x)), (1, .int p1)] [] G bc bs := by
  refine g_aload_n dX2_findOffer_0 rfl 0 rfl ?_
  refine g_bipush (v := (-2)) dX2_findOffer_1 (by decide) ?_
  obtain ⟨c1, F⟩ := F
  obtain ⟨m2, F⟩ := F
  refine h_putI (mi := mX2_findOffer) 1 12 (C := RX2) (T := TX2) (N := 30) rfl in_X2 tyX2_ok nmX2 (by decide) q2001 (Or.inl rfl) (Or.inl rfl) rfl rfl c1 m2 rfl rfl dX2_findOffer_3 ?_
  refine g_aload_n dX2_findOffer_6 rfl 0 rfl ?_
  refine g_bipush (v := (-2)) dX2_findOffer_7 (by decide) ?_
  refine h_putI (mi := mX2_findOffer) 1 13 (C := RX2) (T := TX2) (N := 30) rfl in_X2 tyX2_ok nmX2 (by decide) q2002 (Or.inl rfl) (Or.inl rfl) rfl rfl c1 m2 rfl rfl dX2_findOffer_9 ?_
  refine g_iconst (v := 0) dX2_findOffer_12 (by decide) ?_
  refine s_istore_n (lv' := [(0, va_rf (some x)), (1, .int p1), (2, .int 0)]) (cat_R (cat_I cat_nil)) dX2_findOffer_13 rfl (by decide) rfl [1, 2, 0] rfl ?_
  exact F
theorem rX2_findOffer_14 {Γ : GE} {l : Launch} {h MC MS : Nat} {Q : Option Value → GH → Prop} {bc bs : Nat} {G : GH} (x : Nat) (p1 : Int32) (p2 : Int32) (F : (gC G x = kO 1 ∧ ∃ a2, (gR G x 0) = some a2 ∧ gC G a2 = kA 0 ∧ vp_in 1 (gL G a2) ∧ (((gI G a2 (1 : Int32).toNatClampNeg) ≤ p2 → (Q none G)) ∧ (¬ (gI G a2 (1 : Int32).toNatClampNeg) ≤ p2 → (cI Γ l h mX2_isReserve [.ref x, .int p2] G bc bs fun r6 Gr6 br6 sr6 => ((¬ r6 = 0 → (GW Γ l mX2_findOffer h MC MS Q 14 [(0, va_rf (some x)), (1, .int p1), (2, .int (p2 + 1))] [] Gr6 br6 sr6)) ∧ (r6 = 0 → (gC Gr6 x = kO 1 ∧ cI Γ l h mX2_hinders [.ref x, .int p2, .int p1, .int 1] Gr6 br6 sr6 fun r8 Gr8 br8 sr8 => ((¬ r8 = 0 → (GW Γ l mX2_findOffer h MC MS Q 52 [(0, va_rf (some x)), (1, .int p1), (2, .int p2), (3, .int 0)] [] Gr8 br8 sr8)) ∧ (r8 = 0 → (gC Gr8 x = kO 1 ∧ cV Γ l h mX2_consider [.ref x, .int p2, .int (-2), .int 0] Gr8 br8 sr8 fun Gr11 br11 sr11 => GW Γ l mX2_findOffer h MC MS Q 52 [(0, va_rf (some x)), (1, .int p1), (2, .int p2), (3, .int 0)] [] Gr11 br11 sr11))))))))))) : GW Γ l mX2_findOffer h MC MS Q 14 [(0, va_rf (some x)), (1, .int p1), (2, .int p2)] [] G bc bs := by
  refine g_iload_n dX2_findOffer_14 rfl 2 rfl ?_
  refine g_aload_n dX2_findOffer_15 rfl 0 rfl ?_
  obtain ⟨c1, F⟩ := F
  refine h_get (v := va_rf (gR G x 0)) 1 0 (C := RX2) (T := TX2) (N := 30) rfl in_X2 (by decide) q1989 (Or.inl rfl) rfl c1 rfl dX2_findOffer_16 ?_
  refine g_iconst (v := 1) dX2_findOffer_19 (by decide) ?_
  obtain ⟨a2, e3, F⟩ := F
  obtain ⟨c4, F⟩ := F
  obtain ⟨k5, F⟩ := F
  refine h_iald e3 c4 k5 dX2_findOffer_20 ?_
  refine g_icmp_ge 103 dX2_findOffer_21 (by decide) (fun h16 => ?_) (fun h16 => ?_)
  · have F := F.1 h16
    exact g_vret rfl dX2_findOffer_103 F
  · have F := F.2 h16
    refine g_aload_n dX2_findOffer_24 rfl 0 rfl ?_
    refine g_iload_n dX2_findOffer_25 rfl 2 rfl ?_
    refine h_callVI (ci := 1) (C := RX2) (T := TX2) (N := 30) (As := [.int p2]) (rest := []) F 1 rfl rfl (lw_V q2349 q2351 qs89 q117 q2352) vm_X2_isReserve (by decide) rfl c1 rfl (room_of sc_nil (Nat.le_of_ble_eq_true rfl)) dX2_findOffer_26 (fun r6 Gr6 br6 sr6 F => ?_)
    refine g_if_ne 97 dX2_findOffer_29 (by decide) (fun h15 => ?_) (fun h15 => ?_)
    · have F := F.1 h15
      refine s_iinc (v := (p2 + 1)) (lv' := [(0, va_rf (some x)), (1, .int p1), (2, .int (p2 + 1))]) (cat_R (cat_I (cat_I cat_nil))) dX2_findOffer_97 (k0 := 2) rfl rfl (by decide) rfl [1, 2, 0] rfl ?_
      refine g_goto 14 dX2_findOffer_100 (by decide) ?_
      exact F
    · have F := F.2 h15
      refine g_aload_n dX2_findOffer_32 rfl 0 rfl ?_
      refine g_iload_n dX2_findOffer_33 rfl 2 rfl ?_
      refine g_iload_n dX2_findOffer_34 rfl 1 rfl ?_
      refine g_iconst (v := 1) dX2_findOffer_35 (by decide) ?_
      obtain ⟨c9, F⟩ := F
      refine h_callVI (ci := 1) (C := RX2) (T := TX2) (N := 30) (As := [.int p2, .int p1, .int 1]) (rest := []) F 3 rfl rfl (lw_V q2164 q2166 qs63 q117 q2167) vm_X2_hinders (by decide) rfl c9 rfl (room_of sc_nil (Nat.le_of_ble_eq_true rfl)) dX2_findOffer_36 (fun r8 Gr8 br8 sr8 F => ?_)
      refine g_if_ne 50 dX2_findOffer_39 (by decide) (fun h14 => ?_) (fun h14 => ?_)
      · have F := F.1 h14
        refine g_iconst (v := 0) dX2_findOffer_50 (by decide) ?_
        refine s_istore_n (lv' := [(0, va_rf (some x)), (1, .int p1), (2, .int p2), (3, .int 0)]) (cat_R (cat_I (cat_I cat_nil))) dX2_findOffer_51 rfl (by decide) rfl [1, 2, 3, 0] rfl ?_
        exact F
      · have F := F.2 h14
        refine g_aload_n dX2_findOffer_42 rfl 0 rfl ?_
        refine g_iload_n dX2_findOffer_43 rfl 2 rfl ?_
        refine g_bipush (v := (-2)) dX2_findOffer_44 (by decide) ?_
        refine g_iconst (v := 0) dX2_findOffer_46 (by decide) ?_
        obtain ⟨c12, F⟩ := F
        refine h_callVV (ci := 1) (C := RX2) (T := TX2) (N := 30) (As := [.int p2, .int (-2), .int 0]) (rest := []) F 3 rfl rfl (lw_V q2373 q2375 qs92 q117 q2376) vm_X2_consider (by decide) rfl c12 rfl (room_of sc_nil (Nat.le_of_ble_eq_true rfl)) dX2_findOffer_47 (fun Gr11 br11 sr11 F => ?_)
        refine g_iconst (v := 0) dX2_findOffer_50 (by decide) ?_
        refine s_istore_n (lv' := [(0, va_rf (some x)), (1, .int p1), (2, .int p2), (3, .int 0)]) (cat_R (cat_I (cat_I cat_nil))) dX2_findOffer_51 rfl (by decide) rfl [1, 2, 3, 0] rfl ?_
        exact F
theorem rX2_findOffer_52 {Γ : GE} {l : Launch} {h MC MS : Nat} {Q : Option Value → GH → Prop} {bc bs : Nat} {G : GH} (x : Nat) (p1 : Int32) (p2 : Int32) (p3 : Int32) (F : (gC G x = kO 1 ∧ ∃ a2, (gR G x 0) = some a2 ∧ gC G a2 = kA 0 ∧ vp_in 0 (gL G a2) ∧ (((gI G a2 (0 : Int32).toNatClampNeg) ≤ p3 → (GW Γ l mX2_findOffer h MC MS Q 14 [(0, va_rf (some x)), (1, .int p1), (2, .int (p2 + 1))] [] G bc bs)) ∧ (¬ (gI G a2 (0 : Int32).toNatClampNeg) ≤ p3 → (cI Γ l h mX2_isWay [.ref x, .int p2, .int p3, .int p1] G bc bs fun r6 Gr6 br6 sr6 => ((r6 = 0 → (GW Γ l mX2_findOffer h MC MS Q 52 [(0, va_rf (some x)), (1, .int p1), (2, .int p2), (3, .int (p3 + 1))] [] Gr6 br6 sr6)) ∧ (¬ r6 = 0 → (gC Gr6 x = kO 1 ∧ cI Γ l h mX2_lengthOf [.ref x, .int p3] Gr6 br6 sr6 fun r8 Gr8 br8 sr8 => gC Gr8 x = kO 1 ∧ ∃ a12, (gR Gr8 x 0) = some a12 ∧ gC Gr8 a12 = kA 0 ∧ vp_in 8 (gL Gr8 a12) ∧ cV Γ l h mX2_consider [.ref x, .int p2, .int p3, .int (r8 * (gI Gr8 a12 (8 : Int32).toNatClampNeg))] Gr8 br8 sr8 fun Gr16 br16 sr16 => GW Γ l mX2_findOffer h MC MS Q 52 [(0, va_rf (some x)), (1, .int p1), (2, .int p2), (3, .int (p3 + 1))] [] Gr16 br16 sr16)))))))) : GW Γ l mX2_findOffer h MC MS Q 52 [(0, va_rf (some x)), (1, .int p1), (2, .int p2), (3, .int p3)] [] G bc bs := by
  refine g_iload_n dX2_findOffer_52 rfl 3 rfl ?_
  refine g_aload_n dX2_findOffer_53 rfl 0 rfl ?_
  obtain ⟨c1, F⟩ := F
  refine h_get (v := va_rf (gR G x 0)) 1 0 (C := RX2) (T := TX2) (N := 30) rfl in_X2 (by decide) q1989 (Or.inl rfl) rfl c1 rfl dX2_findOffer_54 ?_
  refine g_iconst (v := 0) dX2_findOffer_57 (by decide) ?_
  obtain ⟨a2, e3, F⟩ := F
  obtain ⟨c4, F⟩ := F
  obtain ⟨k5, F⟩ := F
  refine h_iald e3 c4 k5 dX2_findOffer_58 ?_
  refine g_icmp_ge 97 dX2_findOffer_59 (by decide) (fun h19 => ?_) (fun h19 => ?_)
  · have F := F.1 h19
    refine s_iinc (v := (p2 + 1)) (lv' := [(0, va_rf (some x)), (1, .int p1), (2, .int (p2 + 1)), (3, .int p3)]) (cat_R (cat_I (cat_I (cat_I cat_nil)))) dX2_findOffer_97 (k0 := 2) rfl rfl (by decide) rfl [1, 2, 0, 3] rfl ?_
    refine g_goto 14 dX2_findOffer_100 (by decide) ?_
    refine GW.lsub (lv' := [(0, va_rf (some x)), (1, .int p1), (2, .int (p2 + 1))]) [0, 1, 2] rfl ?_
    exact F
  · have F := F.2 h19
    refine g_aload_n dX2_findOffer_62 rfl 0 rfl ?_
    refine g_iload_n dX2_findOffer_63 rfl 2 rfl ?_
    refine g_iload_n dX2_findOffer_64 rfl 3 rfl ?_
    refine g_iload_n dX2_findOffer_65 rfl 1 rfl ?_
    refine h_callVI (ci := 1) (C := RX2) (T := TX2) (N := 30) (As := [.int p2, .int p3, .int p1]) (rest := []) F 3 rfl rfl (lw_V q2377 q2379 qs93 q117 q2380) vm_X2_isWay (by decide) rfl c1 rfl (room_of sc_nil (Nat.le_of_ble_eq_true rfl)) dX2_findOffer_66 (fun r6 Gr6 br6 sr6 F => ?_)
    refine g_if_eq 91 dX2_findOffer_69 (by decide) (fun h18 => ?_) (fun h18 => ?_)
    · have F := F.1 h18
      refine s_iinc (v := (p3 + 1)) (lv' := [(0, va_rf (some x)), (1, .int p1), (2, .int p2), (3, .int (p3 + 1))]) (cat_R (cat_I (cat_I (cat_I cat_nil)))) dX2_findOffer_91 (k0 := 3) rfl rfl (by decide) rfl [1, 2, 3, 0] rfl ?_
      refine g_goto 52 dX2_findOffer_94 (by decide) ?_
      exact F
    · have F := F.2 h18
      refine g_aload_n dX2_findOffer_72 rfl 0 rfl ?_
      refine g_iload_n dX2_findOffer_73 rfl 2 rfl ?_
      refine g_iload_n dX2_findOffer_74 rfl 3 rfl ?_
      refine g_aload_n dX2_findOffer_75 rfl 0 rfl ?_
      refine g_iload_n dX2_findOffer_76 rfl 3 rfl ?_
      obtain ⟨c9, F⟩ := F
      refine h_callVI (ci := 1) (C := RX2) (T := TX2) (N := 30) (As := [.int p3]) (rest := [.int p3, .int p2, va_rf (some x)]) F 1 rfl rfl (lw_V q2216 q2218 qs76 q117 q2219) vm_X2_lengthOf (by decide) rfl c9 rfl (room_of (sc_I (sc_I (sc_R sc_nil))) (Nat.le_of_ble_eq_true rfl)) dX2_findOffer_77 (fun r8 Gr8 br8 sr8 F => ?_)
      refine g_aload_n dX2_findOffer_80 rfl 0 rfl ?_
      obtain ⟨c11, F⟩ := F
      refine h_get (v := va_rf (gR Gr8 x 0)) 1 0 (C := RX2) (T := TX2) (N := 30) rfl in_X2 (by decide) q1989 (Or.inl rfl) rfl c11 rfl dX2_findOffer_81 ?_
      refine g_bipush (v := 8) dX2_findOffer_84 (by decide) ?_
      obtain ⟨a12, e13, F⟩ := F
      obtain ⟨c14, F⟩ := F
      obtain ⟨k15, F⟩ := F
      refine h_iald e13 c14 k15 dX2_findOffer_86 ?_
      refine g_imul dX2_findOffer_87 ?_
      refine h_callVV (ci := 1) (C := RX2) (T := TX2) (N := 30) (As := [.int p2, .int p3, .int (r8 * (gI Gr8 a12 (8 : Int32).toNatClampNeg))]) (rest := []) F 3 rfl rfl (lw_V q2373 q2375 qs92 q117 q2376) vm_X2_consider (by decide) rfl c11 rfl (room_of sc_nil (Nat.le_of_ble_eq_true rfl)) dX2_findOffer_88 (fun Gr16 br16 sr16 F => ?_)
      refine s_iinc (v := (p3 + 1)) (lv' := [(0, va_rf (some x)), (1, .int p1), (2, .int p2), (3, .int (p3 + 1))]) (cat_R (cat_I (cat_I (cat_I cat_nil)))) dX2_findOffer_91 (k0 := 3) rfl rfl (by decide) rfl [1, 2, 3, 0] rfl ?_
      refine g_goto 52 dX2_findOffer_94 (by decide) ?_
      exact F
theorem rX2_consider_0 {Γ : GE} {l : Launch} {h MC MS : Nat} {Q : Option Value → GH → Prop} {bc bs : Nat} {G : GH} (x : Nat) (p1 : Int32) (p2 : Int32) (p3 : Int32) (F : (gC G x = kO 1 ∧ cI Γ l h mX2_minutesOf [.ref x, .int p1] G bc bs fun r1 Gr1 br1 sr1 => gC Gr1 x = kO 1 ∧ (((gI Gr1 x 12) < 0 → (GW Γ l mX2_consider h MC MS Q 44 [(0, va_rf (some x)), (1, .int p1), (2, .int p2), (3, .int p3), (4, .int r1)] [.int 1] Gr1 br1 sr1)) ∧ (¬ (gI Gr1 x 12) < 0 → ((p3 < (gI Gr1 x 14) → (GW Γ l mX2_consider h MC MS Q 44 [(0, va_rf (some x)), (1, .int p1), (2, .int p2), (3, .int p3), (4, .int r1)] [.int 1] Gr1 br1 sr1)) ∧ (¬ p3 < (gI Gr1 x 14) → ((¬ p3 = (gI Gr1 x 14) → (GW Γ l mX2_consider h MC MS Q 44 [(0, va_rf (some x)), (1, .int p1), (2, .int p2), (3, .int p3), (4, .int r1)] [.int 0] Gr1 br1 sr1)) ∧ (p3 = (gI Gr1 x 14) → (((gI Gr1 x 15) ≤ r1 → (GW Γ l mX2_consider h MC MS Q 44 [(0, va_rf (some x)), (1, .int p1), (2, .int p2), (3, .int p3), (4, .int r1)] [.int 0] Gr1 br1 sr1)) ∧ (¬ (gI Gr1 x 15) ≤ r1 → (GW Γ l mX2_consider h MC MS Q 44 [(0, va_rf (some x)), (1, .int p1), (2, .int p2), (3, .int p3), (4, .int r1)] [.int 1] Gr1 br1 sr1))))))))))) : GW Γ l mX2_consider h MC MS Q 0 [(0, va_rf (some x)), (1, .int p1), (2, .int p2), (3, .int p3)] [] G bc bs := by
  refine g_aload_n dX2_consider_0 rfl 0 rfl ?_
  refine g_iload_n dX2_consider_1 rfl 1 rfl ?_
  obtain ⟨c2, F⟩ := F
  refine h_callVI (ci := 1) (C := RX2) (T := TX2) (N := 30) (As := [.int p1]) (rest := []) F 1 rfl rfl (lw_V q2289 q2291 qs83 q117 q2292) vm_X2_minutesOf (by decide) rfl c2 rfl (room_of sc_nil (Nat.le_of_ble_eq_true rfl)) dX2_consider_2 (fun r1 Gr1 br1 sr1 F => ?_)
  refine s_istore (lv' := [(0, va_rf (some x)), (1, .int p1), (2, .int p2), (3, .int p3), (4, .int r1)]) (cat_R (cat_I (cat_I (cat_I cat_nil)))) dX2_consider_5 (by decide) rfl [1, 2, 3, 4, 0] rfl ?_
  refine g_aload_n dX2_consider_7 rfl 0 rfl ?_
  obtain ⟨c4, F⟩ := F
  refine h_get (v := .int (gI Gr1 x 12)) 1 12 (C := RX2) (T := TX2) (N := 30) rfl in_X2 (by decide) q2001 (Or.inl rfl) rfl c4 rfl dX2_consider_8 ?_
  refine g_if_lt 39 dX2_consider_11 (by decide) (fun h8 => ?_) (fun h8 => ?_)
  · have F := F.1 h8
    refine g_iconst (v := 1) dX2_consider_39 (by decide) ?_
    refine g_goto 44 dX2_consider_40 (by decide) ?_
    exact F
  · have F := F.2 h8
    refine g_iload_n dX2_consider_14 rfl 3 rfl ?_
    refine g_aload_n dX2_consider_15 rfl 0 rfl ?_
    refine h_get (v := .int (gI Gr1 x 14)) 1 14 (C := RX2) (T := TX2) (N := 30) rfl in_X2 (by decide) q2003 (Or.inl rfl) rfl c4 rfl dX2_consider_16 ?_
    refine g_icmp_lt 39 dX2_consider_19 (by decide) (fun h7 => ?_) (fun h7 => ?_)
    · have F := F.1 h7
      refine g_iconst (v := 1) dX2_consider_39 (by decide) ?_
      refine g_goto 44 dX2_consider_40 (by decide) ?_
      exact F
    · have F := F.2 h7
      refine g_iload_n dX2_consider_22 rfl 3 rfl ?_
      refine g_aload_n dX2_consider_23 rfl 0 rfl ?_
      refine h_get (v := .int (gI Gr1 x 14)) 1 14 (C := RX2) (T := TX2) (N := 30) rfl in_X2 (by decide) q2003 (Or.inl rfl) rfl c4 rfl dX2_consider_24 ?_
      refine g_icmp_ne 43 dX2_consider_27 (by decide) (fun h6 => ?_) (fun h6 => ?_)
      · have F := F.1 h6
        refine g_iconst (v := 0) dX2_consider_43 (by decide) ?_
        exact F
      · have F := F.2 h6
        refine g_iload dX2_consider_30 4 rfl ?_
        refine g_aload_n dX2_consider_32 rfl 0 rfl ?_
        refine h_get (v := .int (gI Gr1 x 15)) 1 15 (C := RX2) (T := TX2) (N := 30) rfl in_X2 (by decide) q2004 (Or.inl rfl) rfl c4 rfl dX2_consider_33 ?_
        refine g_icmp_ge 43 dX2_consider_36 (by decide) (fun h5 => ?_) (fun h5 => ?_)
        · have F := F.1 h5
          refine g_iconst (v := 0) dX2_consider_43 (by decide) ?_
          exact F
        · have F := F.2 h5
          refine g_iconst (v := 1) dX2_consider_39 (by decide) ?_
          refine g_goto 44 dX2_consider_40 (by decide) ?_
          exact F
theorem rX2_consider_44 {Γ : GE} {l : Launch} {h MC MS : Nat} {Q : Option Value → GH → Prop} {bc bs : Nat} {G : GH} (x : Nat) (p1 : Int32) (p2 : Int32) (p3 : Int32) (p4 : Int32) (s0 : Int32) (F : ((s0 = 0 → (Q none G)) ∧ (¬ s0 = 0 → (gC G x = kO 1 ∧ gM G x = true ∧ Q none (sI (sI (sI (sI G x 12 p1) x 13 p2) x 14 p3) x 15 p4))))) : GW Γ l mX2_consider h MC MS Q 44 [(0, va_rf (some x)), (1, .int p1), (2, .int p2), (3, .int p3), (4, .int p4)] [.int s0] G bc bs := by
  refine s_istore (lv' := [(0, va_rf (some x)), (1, .int p1), (2, .int p2), (3, .int p3), (4, .int p4), (5, .int s0)]) (cat_R (cat_I (cat_I (cat_I (cat_I cat_nil))))) dX2_consider_44 (by decide) rfl [1, 2, 3, 4, 5, 0] rfl ?_
  refine g_iload dX2_consider_46 5 rfl ?_
  refine g_if_eq 72 dX2_consider_48 (by decide) (fun h3 => ?_) (fun h3 => ?_)
  · have F := F.1 h3
    exact g_vret rfl dX2_consider_72 F
  · have F := F.2 h3
    refine g_aload_n dX2_consider_51 rfl 0 rfl ?_
    refine g_iload_n dX2_consider_52 rfl 1 rfl ?_
    obtain ⟨c1, F⟩ := F
    obtain ⟨m2, F⟩ := F
    refine h_putI (mi := mX2_consider) 1 12 (C := RX2) (T := TX2) (N := 30) rfl in_X2 tyX2_ok nmX2 (by decide) q2001 (Or.inl rfl) (Or.inl rfl) rfl rfl c1 m2 rfl rfl dX2_consider_53 ?_
    refine g_aload_n dX2_consider_56 rfl 0 rfl ?_
    refine g_iload_n dX2_consider_57 rfl 2 rfl ?_
    refine h_putI (mi := mX2_consider) 1 13 (C := RX2) (T := TX2) (N := 30) rfl in_X2 tyX2_ok nmX2 (by decide) q2002 (Or.inl rfl) (Or.inl rfl) rfl rfl c1 m2 rfl rfl dX2_consider_58 ?_
    refine g_aload_n dX2_consider_61 rfl 0 rfl ?_
    refine g_iload_n dX2_consider_62 rfl 3 rfl ?_
    refine h_putI (mi := mX2_consider) 1 14 (C := RX2) (T := TX2) (N := 30) rfl in_X2 tyX2_ok nmX2 (by decide) q2003 (Or.inl rfl) (Or.inl rfl) rfl rfl c1 m2 rfl rfl dX2_consider_63 ?_
    refine g_aload_n dX2_consider_66 rfl 0 rfl ?_
    refine g_iload dX2_consider_67 4 rfl ?_
    refine h_putI (mi := mX2_consider) 1 15 (C := RX2) (T := TX2) (N := 30) rfl in_X2 tyX2_ok nmX2 (by decide) q2004 (Or.inl rfl) (Or.inl rfl) rfl rfl c1 m2 rfl rfl dX2_consider_69 ?_
    exact g_vret rfl dX2_consider_72 F
theorem rX2_isWay_0 {Γ : GE} {l : Launch} {h MC MS : Nat} {Q : Option Value → GH → Prop} {bc bs : Nat} {G : GH} (x : Nat) (p1 : Int32) (p2 : Int32) (p3 : Int32) (F : (gC G x = kO 1 ∧ cI Γ l h mX2_of [.ref x, .int p2, .int 2] G bc bs fun r1 Gr1 br1 sr1 => gC Gr1 x = kO 1 ∧ cI Γ l h mX2_of [.ref x, .int p3, .int 2] Gr1 br1 sr1 fun r4 Gr4 br4 sr4 => ((r4 ≤ r1 → (Q (some (.int 0)) Gr4)) ∧ (¬ r4 ≤ r1 → (gC Gr4 x = kO 1 ∧ cI Γ l h mX2_hinders [.ref x, .int p1, .int p2, .int 0] Gr4 br4 sr4 fun r7 Gr7 br7 sr7 => ((r7 ≤ 0 → (gC Gr7 x = kO 1 ∧ cI Γ l h mX2_put [.ref x, .int p2, .int 0] Gr7 br7 sr7 fun r10 Gr10 br10 sr10 => gC Gr10 x = kO 1 ∧ cI Γ l h mX2_hinders_2 [.ref x, .int p3, .int 1] Gr10 br10 sr10 fun r13 Gr13 br13 sr13 => ((¬ r13 = 0 → (Q (some (.int 0)) Gr13)) ∧ (r13 = 0 → (Q (some (.int 1)) Gr13))))) ∧ (¬ r7 ≤ 0 → (Q (some (.int 0)) Gr7)))))))) : GW Γ l mX2_isWay h MC MS Q 0 [(0, va_rf (some x)), (1, .int p1), (2, .int p2), (3, .int p3)] [] G bc bs := by
  refine g_aload_n dX2_isWay_0 rfl 0 rfl ?_
  refine g_iload_n dX2_isWay_1 rfl 2 rfl ?_
  refine g_iconst (v := 2) dX2_isWay_2 (by decide) ?_
  obtain ⟨c2, F⟩ := F
  refine h_callVI (ci := 1) (C := RX2) (T := TX2) (N := 30) (As := [.int p2, .int 2]) (rest := []) F 2 rfl rfl (lw_V q2093 q2095 qs54 q117 q2096) vm_X2_of (by decide) rfl c2 rfl (room_of sc_nil (Nat.le_of_ble_eq_true rfl)) dX2_isWay_3 (fun r1 Gr1 br1 sr1 F => ?_)
  refine g_aload_n dX2_isWay_6 rfl 0 rfl ?_
  refine g_iload_n dX2_isWay_7 rfl 3 rfl ?_
  refine g_iconst (v := 2) dX2_isWay_8 (by decide) ?_
  obtain ⟨c5, F⟩ := F
  refine h_callVI (ci := 1) (C := RX2) (T := TX2) (N := 30) (As := [.int p3, .int 2]) (rest := [.int r1]) F 2 rfl rfl (lw_V q2093 q2095 qs54 q117 q2096) vm_X2_of (by decide) rfl c5 rfl (room_of (sc_I sc_nil) (Nat.le_of_ble_eq_true rfl)) dX2_isWay_9 (fun r4 Gr4 br4 sr4 F => ?_)
  refine g_icmp_ge 25 dX2_isWay_12 (by decide) (fun h18 => ?_) (fun h18 => ?_)
  · have F := F.1 h18
    refine g_iconst (v := 0) dX2_isWay_25 (by decide) ?_
    exact g_zret rfl rfl dX2_isWay_26 F
  · have F := F.2 h18
    refine g_aload_n dX2_isWay_15 rfl 0 rfl ?_
    refine g_iload_n dX2_isWay_16 rfl 1 rfl ?_
    refine g_iload_n dX2_isWay_17 rfl 2 rfl ?_
    refine g_iconst (v := 0) dX2_isWay_18 (by decide) ?_
    obtain ⟨c8, F⟩ := F
    refine h_callVI (ci := 1) (C := RX2) (T := TX2) (N := 30) (As := [.int p1, .int p2, .int 0]) (rest := []) F 3 rfl rfl (lw_V q2164 q2166 qs63 q117 q2167) vm_X2_hinders (by decide) rfl c8 rfl (room_of sc_nil (Nat.le_of_ble_eq_true rfl)) dX2_isWay_19 (fun r7 Gr7 br7 sr7 F => ?_)
    refine g_if_le 27 dX2_isWay_22 (by decide) (fun h17 => ?_) (fun h17 => ?_)
    · have F := F.1 h17
      refine g_aload_n dX2_isWay_27 rfl 0 rfl ?_
      refine g_iload_n dX2_isWay_28 rfl 2 rfl ?_
      refine g_iconst (v := 0) dX2_isWay_29 (by decide) ?_
      obtain ⟨c11, F⟩ := F
      refine h_callVI (ci := 1) (C := RX2) (T := TX2) (N := 30) (As := [.int p2, .int 0]) (rest := []) F 2 rfl rfl (lw_V q2180 q2182 qs67 q117 q2183) vm_X2_put (by decide) rfl c11 rfl (room_of sc_nil (Nat.le_of_ble_eq_true rfl)) dX2_isWay_30 (fun r10 Gr10 br10 sr10 F => ?_)
      refine s_istore (lv' := [(0, va_rf (some x)), (1, .int p1), (2, .int p2), (3, .int p3), (4, .int r10)]) (cat_R (cat_I (cat_I (cat_I cat_nil)))) dX2_isWay_33 (by decide) rfl [1, 2, 3, 4, 0] rfl ?_
      refine g_aload_n dX2_isWay_35 rfl 0 rfl ?_
      refine g_iload_n dX2_isWay_36 rfl 3 rfl ?_
      refine g_iconst (v := 1) dX2_isWay_37 (by decide) ?_
      obtain ⟨c14, F⟩ := F
      refine h_callVI (ci := 1) (C := RX2) (T := TX2) (N := 30) (As := [.int p3, .int 1]) (rest := []) F 2 rfl rfl (lw_V q2172 q2174 qs65 q117 q2175) vm_X2_hinders_2 (by decide) rfl c14 rfl (room_of sc_nil (Nat.le_of_ble_eq_true rfl)) dX2_isWay_38 (fun r13 Gr13 br13 sr13 F => ?_)
      refine g_if_ne 48 dX2_isWay_41 (by decide) (fun h16 => ?_) (fun h16 => ?_)
      · have F := F.1 h16
        refine g_iconst (v := 0) dX2_isWay_48 (by decide) ?_
        exact g_zret rfl rfl dX2_isWay_49 F
      · have F := F.2 h16
        refine g_iconst (v := 1) dX2_isWay_44 (by decide) ?_
        refine g_goto 49 dX2_isWay_45 (by decide) ?_
        exact g_zret rfl rfl dX2_isWay_49 F
    · have F := F.2 h17
      refine g_iconst (v := 0) dX2_isWay_25 (by decide) ?_
      exact g_zret rfl rfl dX2_isWay_26 F
theorem rX2_offer_0 {Γ : GE} {l : Launch} {h MC MS : Nat} {Q : Option Value → GH → Prop} {bc bs : Nat} {G : GH} (x : Nat) (p1 : Int32) (p2 : Int32) (F : (gC G x = kO 1 ∧ cI Γ l h mX2_isLeg [.ref x, .int p1] G bc bs fun r1 Gr1 br1 sr1 => ((r1 = 0 → (Q (some (.int (-1))) Gr1)) ∧ (¬ r1 = 0 → (cI Γ l h mX2_in [.int p2, .int 0, .int 2] Gr1 br1 sr1 fun r4 Gr4 br4 sr4 => ((¬ r4 = 0 → (gC Gr4 x = kO 1 ∧ cI Γ l h mX2_isOpen [.ref x, .int p1] Gr4 br4 sr4 fun r6 Gr6 br6 sr6 => ((¬ r6 = 0 → (gC Gr6 x = kO 1 ∧ cV Γ l h mX2_findOffer [.ref x, .int p1] Gr6 br6 sr6 fun Gr9 br9 sr9 => gC Gr9 x = kO 1 ∧ (((0 : Int32) ≤ (gI Gr9 x 12) → ((¬ p2 = 0 → ((¬ p2 = 1 → (Q (some (.int (gI Gr9 x 14))) Gr9)) ∧ (p2 = 1 → (Q (some (.int (gI Gr9 x 13))) Gr9)))) ∧ (p2 = 0 → (Q (some (.int (gI Gr9 x 12))) Gr9)))) ∧ (¬ (0 : Int32) ≤ (gI Gr9 x 12) → (Q (some (.int (-2))) Gr9))))) ∧ (r6 = 0 → (Q (some (.int (-2))) Gr6))))) ∧ (r4 = 0 → (Q (some (.int (-1))) Gr4)))))))) : GW Γ l mX2_offer h MC MS Q 0 [(0, va_rf (some x)), (1, .int p1), (2, .int p2)] [] G bc bs := by
  refine g_aload_n dX2_offer_0 rfl 0 rfl ?_
  refine g_iload_n dX2_offer_1 rfl 1 rfl ?_
  obtain ⟨c2, F⟩ := F
  refine h_callVI (ci := 1) (C := RX2) (T := TX2) (N := 30) (As := [.int p1]) (rest := []) F 1 rfl rfl (lw_V q2124 q2126 qs57 q117 q2127) vm_X2_isLeg (by decide) rfl c2 rfl (room_of sc_nil (Nat.le_of_ble_eq_true rfl)) dX2_offer_2 (fun r1 Gr1 br1 sr1 F => ?_)
  refine g_if_eq 17 dX2_offer_5 (by decide) (fun h18 => ?_) (fun h18 => ?_)
  · have F := F.1 h18
    refine g_iconst (v := (-1)) dX2_offer_17 (by decide) ?_
    exact g_iret rfl dX2_offer_18 F
  · have F := F.2 h18
    refine g_iload_n dX2_offer_8 rfl 2 rfl ?_
    refine g_iconst (v := 0) dX2_offer_9 (by decide) ?_
    refine g_iconst (v := 2) dX2_offer_10 (by decide) ?_
    refine h_callSI (As := [.int p2, .int 0, .int 2]) (rest := []) F 3 rfl (lw_S q2085 q2086 q117 q2087) vm_X2_in.2 (by decide) rfl (room_of sc_nil (Nat.le_of_ble_eq_true rfl)) dX2_offer_11 (fun r4 Gr4 br4 sr4 F => ?_)
    refine g_if_ne 19 dX2_offer_14 (by decide) (fun h17 => ?_) (fun h17 => ?_)
    · have F := F.1 h17
      refine g_aload_n dX2_offer_19 rfl 0 rfl ?_
      refine g_iload_n dX2_offer_20 rfl 1 rfl ?_
      obtain ⟨c7, F⟩ := F
      refine h_callVI (ci := 1) (C := RX2) (T := TX2) (N := 30) (As := [.int p1]) (rest := []) F 1 rfl rfl (lw_V q2325 q2327 qs87 q117 q2328) vm_X2_isOpen (by decide) rfl c7 rfl (room_of sc_nil (Nat.le_of_ble_eq_true rfl)) dX2_offer_21 (fun r6 Gr6 br6 sr6 F => ?_)
      refine g_if_ne 30 dX2_offer_24 (by decide) (fun h16 => ?_) (fun h16 => ?_)
      · have F := F.1 h16
        refine g_aload_n dX2_offer_30 rfl 0 rfl ?_
        refine g_iload_n dX2_offer_31 rfl 1 rfl ?_
        obtain ⟨c10, F⟩ := F
        refine h_callVV (ci := 1) (C := RX2) (T := TX2) (N := 30) (As := [.int p1]) (rest := []) F 1 rfl rfl (lw_V q2369 q2371 qs91 q117 q2372) vm_X2_findOffer (by decide) rfl c10 rfl (room_of sc_nil (Nat.le_of_ble_eq_true rfl)) dX2_offer_32 (fun Gr9 br9 sr9 F => ?_)
        refine g_aload_n dX2_offer_35 rfl 0 rfl ?_
        obtain ⟨c12, F⟩ := F
        refine h_get (v := .int (gI Gr9 x 12)) 1 12 (C := RX2) (T := TX2) (N := 30) rfl in_X2 (by decide) q2001 (Or.inl rfl) rfl c12 rfl dX2_offer_36 ?_
        refine g_if_ge 47 dX2_offer_39 (by decide) (fun h15 => ?_) (fun h15 => ?_)
        · have F := F.1 h15
          refine g_iload_n dX2_offer_47 rfl 2 rfl ?_
          refine g_if_ne 58 dX2_offer_48 (by decide) (fun h14 => ?_) (fun h14 => ?_)
          · have F := F.1 h14
            refine g_iload_n dX2_offer_58 rfl 2 rfl ?_
            refine g_iconst (v := 1) dX2_offer_59 (by decide) ?_
            refine g_icmp_ne 70 dX2_offer_60 (by decide) (fun h13 => ?_) (fun h13 => ?_)
            · have F := F.1 h13
              refine g_aload_n dX2_offer_70 rfl 0 rfl ?_
              refine h_get (v := .int (gI Gr9 x 14)) 1 14 (C := RX2) (T := TX2) (N := 30) rfl in_X2 (by decide) q2003 (Or.inl rfl) rfl c12 rfl dX2_offer_71 ?_
              exact g_iret rfl dX2_offer_74 F
            · have F := F.2 h13
              refine g_aload_n dX2_offer_63 rfl 0 rfl ?_
              refine h_get (v := .int (gI Gr9 x 13)) 1 13 (C := RX2) (T := TX2) (N := 30) rfl in_X2 (by decide) q2002 (Or.inl rfl) rfl c12 rfl dX2_offer_64 ?_
              refine g_goto 74 dX2_offer_67 (by decide) ?_
              exact g_iret rfl dX2_offer_74 F
          · have F := F.2 h14
            refine g_aload_n dX2_offer_51 rfl 0 rfl ?_
            refine h_get (v := .int (gI Gr9 x 12)) 1 12 (C := RX2) (T := TX2) (N := 30) rfl in_X2 (by decide) q2001 (Or.inl rfl) rfl c12 rfl dX2_offer_52 ?_
            refine g_goto 74 dX2_offer_55 (by decide) ?_
            exact g_iret rfl dX2_offer_74 F
        · have F := F.2 h15
          refine g_bipush (v := (-2)) dX2_offer_42 (by decide) ?_
          refine g_goto 74 dX2_offer_44 (by decide) ?_
          exact g_iret rfl dX2_offer_74 F
      · have F := F.2 h16
        refine g_bipush (v := (-2)) dX2_offer_27 (by decide) ?_
        exact g_iret rfl dX2_offer_29 F
    · have F := F.2 h17
      refine g_iconst (v := (-1)) dX2_offer_17 (by decide) ?_
      exact g_iret rfl dX2_offer_18 F
theorem rX2_repair_0 {Γ : GE} {l : Launch} {h MC MS : Nat} {Q : Option Value → GH → Prop} {bc bs : Nat} {G : GH} (x : Nat) (F : (gC G x = kO 1 ∧ cV Γ l h mX2_change [.ref x] G bc bs fun Gr1 br1 sr1 => gC Gr1 x = kO 1 ∧ gM Gr1 x = true ∧ GW Γ l mX2_repair h MC MS Q 11 [(0, va_rf (some x)), (1, .int 0)] [] (sI Gr1 x 18 0) br1 sr1)) : GW Γ l mX2_repair h MC MS Q 0 [(0, va_rf (some x))] [] G bc bs := by
  refine g_aload_n dX2_repair_0 rfl 0 rfl ?_
  obtain ⟨c2, F⟩ := F
  refine h_callVV (ci := 1) (C := RX2) (T := TX2) (N := 30) (As := []) (rest := []) F 0 rfl rfl (lw_V q2097 q2099 qs55 q117 q2100) vm_X2_change (by decide) rfl c2 rfl (room_of sc_nil (Nat.le_of_ble_eq_true rfl)) dX2_repair_1 (fun Gr1 br1 sr1 F => ?_)
  refine g_aload_n dX2_repair_4 rfl 0 rfl ?_
  refine g_iconst (v := 0) dX2_repair_5 (by decide) ?_
  obtain ⟨c4, F⟩ := F
  obtain ⟨m5, F⟩ := F
  refine h_putI (mi := mX2_repair) 1 18 (C := RX2) (T := TX2) (N := 30) rfl in_X2 tyX2_ok nmX2 (by decide) q2007 (Or.inl rfl) (Or.inl rfl) rfl rfl c4 m5 rfl rfl dX2_repair_6 ?_
  refine g_iconst (v := 0) dX2_repair_9 (by decide) ?_
  refine s_istore_n (lv' := [(0, va_rf (some x)), (1, .int 0)]) (cat_R cat_nil) dX2_repair_10 rfl (by decide) rfl [1, 0] rfl ?_
  exact F
theorem rX2_repair_11 {Γ : GE} {l : Launch} {h MC MS : Nat} {Q : Option Value → GH → Prop} {bc bs : Nat} {G : GH} (x : Nat) (p1 : Int32) (F : (gC G x = kO 1 ∧ ∃ a2, (gR G x 0) = some a2 ∧ gC G a2 = kA 0 ∧ vp_in 1 (gL G a2) ∧ (((gI G a2 (1 : Int32).toNatClampNeg) ≤ p1 → (cV Γ l h mX2_findOpen [.ref x] G bc bs fun Gr6 br6 sr6 => gC Gr6 x = kO 1 ∧ ∃ a9, (gR Gr6 x 10) = some a9 ∧ gC Gr6 a9 = kA 0 ∧ gM Gr6 a9 = true ∧ ∃ a13, (gR Gr6 x 16) = some a13 ∧ gC Gr6 a13 = kA 0 ∧ gM Gr6 a13 = true ∧ (0 : Int32).toNatClampNeg + (25 : Int32).toNatClampNeg ≤ gL Gr6 a9 ∧ (0 : Int32).toNatClampNeg + (25 : Int32).toNatClampNeg ≤ gL Gr6 a13 ∧ 0 < h ∧ ∀ H20, H20 = (wI Gr6 a13 (va_cpy (gI Gr6 a9) (gI Gr6 a13) (0 : Int32).toNatClampNeg (0 : Int32).toNatClampNeg (25 : Int32).toNatClampNeg)) → GW Γ l mX2_repair h MC MS Q 164 [(0, va_rf (some x)), (1, .int (gI Gr6 x 11)), (2, .int 0)] [] H20 br6 sr6)) ∧ (¬ (gI G a2 (1 : Int32).toNatClampNeg) ≤ p1 → (cV Γ l h mX2_take [.ref x, .int p1] G bc bs fun Gr23 br23 sr23 => gC Gr23 x = kO 1 ∧ cI Γ l h mX2_violationAt [.ref x, .int 0] Gr23 br23 sr23 fun r25 Gr25 br25 sr25 => GW Γ l mX2_repair h MC MS Q 32 [(0, va_rf (some x)), (1, .int p1), (2, .int r25)] [] Gr25 br25 sr25))))) : GW Γ l mX2_repair h MC MS Q 11 [(0, va_rf (some x)), (1, .int p1)] [] G bc bs := by
  refine g_iload_n dX2_repair_11 rfl 1 rfl ?_
  refine g_aload_n dX2_repair_12 rfl 0 rfl ?_
  obtain ⟨c1, F⟩ := F
  refine h_get (v := va_rf (gR G x 0)) 1 0 (C := RX2) (T := TX2) (N := 30) rfl in_X2 (by decide) q1989 (Or.inl rfl) rfl c1 rfl dX2_repair_13 ?_
  refine g_iconst (v := 1) dX2_repair_16 (by decide) ?_
  obtain ⟨a2, e3, F⟩ := F
  obtain ⟨c4, F⟩ := F
  obtain ⟨k5, F⟩ := F
  refine h_iald e3 c4 k5 dX2_repair_17 ?_
  refine g_icmp_ge 138 dX2_repair_18 (by decide) (fun h28 => ?_) (fun h28 => ?_)
  · have F := F.1 h28
    refine g_aload_n dX2_repair_138 rfl 0 rfl ?_
    refine h_callVV (ci := 1) (C := RX2) (T := TX2) (N := 30) (As := []) (rest := []) F 0 rfl rfl (lw_V q2321 q2323 qs86 q117 q2324) vm_X2_findOpen (by decide) rfl c1 rfl (room_of sc_nil (Nat.le_of_ble_eq_true rfl)) dX2_repair_139 (fun Gr6 br6 sr6 F => ?_)
    refine g_aload_n dX2_repair_142 rfl 0 rfl ?_
    obtain ⟨c8, F⟩ := F
    refine h_get (v := .int (gI Gr6 x 11)) 1 11 (C := RX2) (T := TX2) (N := 30) rfl in_X2 (by decide) q2000 (Or.inl rfl) rfl c8 rfl dX2_repair_143 ?_
    refine s_istore_n (lv' := [(0, va_rf (some x)), (1, .int (gI Gr6 x 11))]) (cat_R (cat_I cat_nil)) dX2_repair_146 rfl (by decide) rfl [1, 0] rfl ?_
    refine g_aload_n dX2_repair_147 rfl 0 rfl ?_
    refine h_get (v := va_rf (gR Gr6 x 10)) 1 10 (C := RX2) (T := TX2) (N := 30) rfl in_X2 (by decide) q1999 (Or.inl rfl) rfl c8 rfl dX2_repair_148 ?_
    refine g_iconst (v := 0) dX2_repair_151 (by decide) ?_
    refine g_aload_n dX2_repair_152 rfl 0 rfl ?_
    refine h_get (v := va_rf (gR Gr6 x 16)) 1 16 (C := RX2) (T := TX2) (N := 30) rfl in_X2 (by decide) q2005 (Or.inl rfl) rfl c8 rfl dX2_repair_153 ?_
    refine g_iconst (v := 0) dX2_repair_156 (by decide) ?_
    refine g_bipush (v := 25) dX2_repair_157 (by decide) ?_
    obtain ⟨a9, e10, F⟩ := F
    obtain ⟨c11, F⟩ := F
    obtain ⟨m12, F⟩ := F
    obtain ⟨a13, e14, F⟩ := F
    obtain ⟨c15, F⟩ := F
    obtain ⟨m16, F⟩ := F
    obtain ⟨k17, F⟩ := F
    obtain ⟨k18, F⟩ := F
    obtain ⟨k19, F⟩ := F
    refine h_copyi 0 (by decide) q1988 q439 q438 q118 e10 c11 m12 e14 c15 m16 (by decide) (by decide) (by decide) k17 k18 (fun _ _ => rfl) k19 (room_of sc_nil (Nat.le_of_ble_eq_true rfl)) dX2_repair_159 ?_
    obtain ⟨H20, h21⟩ : ∃ g : GH, g = (wI Gr6 a13 (va_cpy (gI Gr6 a9) (gI Gr6 a13) (0 : Int32).toNatClampNeg (0 : Int32).toNatClampNeg (25 : Int32).toNatClampNeg)) := ⟨_, rfl⟩
    rw [← h21]
    have F := F H20 h21
    refine g_iconst (v := 0) dX2_repair_162 (by decide) ?_
    refine s_istore_n (lv' := [(0, va_rf (some x)), (1, .int (gI Gr6 x 11)), (2, .int 0)]) (cat_R (cat_I cat_nil)) dX2_repair_163 rfl (by decide) rfl [1, 2, 0] rfl ?_
    exact F
  · have F := F.2 h28
    refine g_aload_n dX2_repair_21 rfl 0 rfl ?_
    refine g_iload_n dX2_repair_22 rfl 1 rfl ?_
    refine h_callVV (ci := 1) (C := RX2) (T := TX2) (N := 30) (As := [.int p1]) (rest := []) F 1 rfl rfl (lw_V q2168 q2170 qs64 q117 q2171) vm_X2_take (by decide) rfl c1 rfl (room_of sc_nil (Nat.le_of_ble_eq_true rfl)) dX2_repair_23 (fun Gr23 br23 sr23 F => ?_)
    refine g_aload_n dX2_repair_26 rfl 0 rfl ?_
    refine g_iconst (v := 0) dX2_repair_27 (by decide) ?_
    obtain ⟨c26, F⟩ := F
    refine h_callVI (ci := 1) (C := RX2) (T := TX2) (N := 30) (As := [.int 0]) (rest := []) F 1 rfl rfl (lw_V q2184 q2186 qs68 q117 q2187) vm_X2_violationAt (by decide) rfl c26 rfl (room_of sc_nil (Nat.le_of_ble_eq_true rfl)) dX2_repair_28 (fun r25 Gr25 br25 sr25 F => ?_)
    refine s_istore_n (lv' := [(0, va_rf (some x)), (1, .int p1), (2, .int r25)]) (cat_R (cat_I cat_nil)) dX2_repair_31 rfl (by decide) rfl [1, 2, 0] rfl ?_
    exact F
theorem rX2_repair_32 {Γ : GE} {l : Launch} {h MC MS : Nat} {Q : Option Value → GH → Prop} {bc bs : Nat} {G : GH} (x : Nat) (p1 : Int32) (p2 : Int32) (F : ((p2 ≤ 0 → (gC G x = kO 1 ∧ cV Γ l h mX2_give [.ref x, .int p1] G bc bs fun Gr1 br1 sr1 => GW Γ l mX2_repair h MC MS Q 11 [(0, va_rf (some x)), (1, .int (p1 + 1))] [] Gr1 br1 sr1)) ∧ (¬ p2 ≤ 0 → (gC G x = kO 1 ∧ ∃ a5, (gR G x 17) = some a5 ∧ gC G a5 = kA 0 ∧ gM G a5 = true ∧ vp_in (4 * (gI G x 18)) (gL G a5) ∧ cI Γ l h mX2_legAt [.ref x, .int (p2 - p2 / 100 * 100)] (sI G a5 (4 * (gI G x 18)).toNatClampNeg p1) bc bs fun r10 Gr10 br10 sr10 => ∃ a12, (gR (sI G a5 (4 * (gI G x 18)).toNatClampNeg p1) x 17) = some a12 ∧ gC Gr10 a12 = kA 0 ∧ gM Gr10 a12 = true ∧ vp_in ((4 * (gI G x 18)) + 1) (gL Gr10 a12) ∧ gC (sI Gr10 a12 ((4 * (gI G x 18)) + 1).toNatClampNeg r10) x = kO 1 ∧ cI Γ l h mX2_isFlown [.ref x, .int (p2 - p2 / 100 * 100)] (sI Gr10 a12 ((4 * (gI G x 18)) + 1).toNatClampNeg r10) br10 sr10 fun r18 Gr18 br18 sr18 => ((r18 = 0 → (GW Γ l mX2_repair h MC MS Q 89 [(0, va_rf (some x)), (1, .int p1), (2, .int p2), (3, .int (4 * (gI G x 18)))] [.int 0, .int ((4 * (gI G x 18)) + 2), va_rf (gR (sI Gr10 a12 ((4 * (gI G x 18)) + 1).toNatClampNeg r10) x 17)] Gr18 br18 sr18)) ∧ (¬ r18 = 0 → (GW Γ l mX2_repair h MC MS Q 89 [(0, va_rf (some x)), (1, .int p1), (2, .int p2), (3, .int (4 * (gI G x 18)))] [.int 1, .int ((4 * (gI G x 18)) + 2), va_rf (gR (sI Gr10 a12 ((4 * (gI G x 18)) + 1).toNatClampNeg r10) x 17)] Gr18 br18 sr18))))))) : GW Γ l mX2_repair h MC MS Q 32 [(0, va_rf (some x)), (1, .int p1), (2, .int p2)] [] G bc bs := by
  refine g_iload_n dX2_repair_32 rfl 2 rfl ?_
  refine g_if_le 127 dX2_repair_33 (by decide) (fun h21 => ?_) (fun h21 => ?_)
  · have F := F.1 h21
    refine g_aload_n dX2_repair_127 rfl 0 rfl ?_
    refine g_iload_n dX2_repair_128 rfl 1 rfl ?_
    obtain ⟨c2, F⟩ := F
    refine h_callVV (ci := 1) (C := RX2) (T := TX2) (N := 30) (As := [.int p1]) (rest := []) F 1 rfl rfl (lw_V q2233 q2235 qs80 q117 q2236) vm_X2_give (by decide) rfl c2 rfl (room_of sc_nil (Nat.le_of_ble_eq_true rfl)) dX2_repair_129 (fun Gr1 br1 sr1 F => ?_)
    refine s_iinc (v := (p1 + 1)) (lv' := [(0, va_rf (some x)), (1, .int (p1 + 1)), (2, .int p2)]) (cat_R (cat_I (cat_I cat_nil))) dX2_repair_132 (k0 := 1) rfl rfl (by decide) rfl [1, 0, 2] rfl ?_
    refine g_goto 11 dX2_repair_135 (by decide) ?_
    refine GW.lsub (lv' := [(0, va_rf (some x)), (1, .int (p1 + 1))]) [0, 1] rfl ?_
    exact F
  · have F := F.2 h21
    refine g_iconst (v := 4) dX2_repair_36 (by decide) ?_
    refine g_aload_n dX2_repair_37 rfl 0 rfl ?_
    obtain ⟨c4, F⟩ := F
    refine h_get (v := .int (gI G x 18)) 1 18 (C := RX2) (T := TX2) (N := 30) rfl in_X2 (by decide) q2007 (Or.inl rfl) rfl c4 rfl dX2_repair_38 ?_
    refine g_imul dX2_repair_41 ?_
    refine s_istore_n (lv' := [(0, va_rf (some x)), (1, .int p1), (2, .int p2), (3, .int (4 * (gI G x 18)))]) (cat_R (cat_I (cat_I cat_nil))) dX2_repair_42 rfl (by decide) rfl [1, 2, 3, 0] rfl ?_
    refine g_aload_n dX2_repair_43 rfl 0 rfl ?_
    refine h_get (v := va_rf (gR G x 17)) 1 17 (C := RX2) (T := TX2) (N := 30) rfl in_X2 (by decide) q2006 (Or.inl rfl) rfl c4 rfl dX2_repair_44 ?_
    refine g_iload_n dX2_repair_47 rfl 3 rfl ?_
    refine g_iload_n dX2_repair_48 rfl 1 rfl ?_
    obtain ⟨a5, e6, F⟩ := F
    obtain ⟨c7, F⟩ := F
    obtain ⟨m8, F⟩ := F
    obtain ⟨k9, F⟩ := F
    refine h_iast e6 c7 m8 k9 dX2_repair_49 ?_
    refine g_aload_n dX2_repair_50 rfl 0 rfl ?_
    refine h_get (v := va_rf (gR (sI G a5 (4 * (gI G x 18)).toNatClampNeg p1) x 17)) 1 17 (C := RX2) (T := TX2) (N := 30) rfl in_X2 (by decide) q2006 (Or.inl rfl) rfl c4 rfl dX2_repair_51 ?_
    refine g_iload_n dX2_repair_54 rfl 3 rfl ?_
    refine g_iconst (v := 1) dX2_repair_55 (by decide) ?_
    refine g_iadd dX2_repair_56 ?_
    refine g_aload_n dX2_repair_57 rfl 0 rfl ?_
    refine g_iload_n dX2_repair_58 rfl 2 rfl ?_
    refine g_bipush (v := 100) dX2_repair_59 (by decide) ?_
    refine g_irem dX2_repair_61 (by decide) ?_
    refine h_callVI (ci := 1) (C := RX2) (T := TX2) (N := 30) (As := [.int (p2 - p2 / 100 * 100)]) (rest := [.int ((4 * (gI G x 18)) + 1), va_rf (gR (sI G a5 (4 * (gI G x 18)).toNatClampNeg p1) x 17)]) F 1 rfl rfl (lw_V q2176 q2178 qs66 q117 q2179) vm_X2_legAt (by decide) rfl c4 rfl (room_of (sc_I (sc_R sc_nil)) (Nat.le_of_ble_eq_true rfl)) dX2_repair_62 (fun r10 Gr10 br10 sr10 F => ?_)
    obtain ⟨a12, e13, F⟩ := F
    obtain ⟨c14, F⟩ := F
    obtain ⟨m15, F⟩ := F
    obtain ⟨k16, F⟩ := F
    refine h_iast e13 c14 m15 k16 dX2_repair_65 ?_
    refine g_aload_n dX2_repair_66 rfl 0 rfl ?_
    obtain ⟨c17, F⟩ := F
    refine h_get (v := va_rf (gR (sI Gr10 a12 ((4 * (gI G x 18)) + 1).toNatClampNeg r10) x 17)) 1 17 (C := RX2) (T := TX2) (N := 30) rfl in_X2 (by decide) q2006 (Or.inl rfl) rfl c17 rfl dX2_repair_67 ?_
    refine g_iload_n dX2_repair_70 rfl 3 rfl ?_
    refine g_iconst (v := 2) dX2_repair_71 (by decide) ?_
    refine g_iadd dX2_repair_72 ?_
    refine g_aload_n dX2_repair_73 rfl 0 rfl ?_
    refine g_iload_n dX2_repair_74 rfl 2 rfl ?_
    refine g_bipush (v := 100) dX2_repair_75 (by decide) ?_
    refine g_irem dX2_repair_77 (by decide) ?_
    refine h_callVI (ci := 1) (C := RX2) (T := TX2) (N := 30) (As := [.int (p2 - p2 / 100 * 100)]) (rest := [.int ((4 * (gI G x 18)) + 2), va_rf (gR (sI Gr10 a12 ((4 * (gI G x 18)) + 1).toNatClampNeg r10) x 17)]) F 1 rfl rfl (lw_V q2212 q2214 qs75 q117 q2215) vm_X2_isFlown (by decide) rfl c17 rfl (room_of (sc_I (sc_R sc_nil)) (Nat.le_of_ble_eq_true rfl)) dX2_repair_78 (fun r18 Gr18 br18 sr18 F => ?_)
    refine g_if_eq 88 dX2_repair_81 (by decide) (fun h20 => ?_) (fun h20 => ?_)
    · have F := F.1 h20
      refine g_iconst (v := 0) dX2_repair_88 (by decide) ?_
      exact F
    · have F := F.2 h20
      refine g_iconst (v := 1) dX2_repair_84 (by decide) ?_
      refine g_goto 89 dX2_repair_85 (by decide) ?_
      exact F
theorem rX2_repair_89 {Γ : GE} {l : Launch} {h MC MS : Nat} {Q : Option Value → GH → Prop} {bc bs : Nat} {G : GH} (x : Nat) (p1 : Int32) (p2 : Int32) (p3 : Int32) (s0 : Option Nat) (s1 : Int32) (s2 : Int32) (F : (∃ a1, s0 = some a1 ∧ gC G a1 = kA 0 ∧ gM G a1 = true ∧ vp_in s1 (gL G a1) ∧ gC (sI G a1 s1.toNatClampNeg s2) x = kO 1 ∧ ∃ a7, (gR (sI G a1 s1.toNatClampNeg s2) x 17) = some a7 ∧ gC (sI G a1 s1.toNatClampNeg s2) a7 = kA 0 ∧ gM (sI G a1 s1.toNatClampNeg s2) a7 = true ∧ vp_in (p3 + 3) (gL (sI G a1 s1.toNatClampNeg s2) a7) ∧ gM (sI (sI G a1 s1.toNatClampNeg s2) a7 (p3 + 3).toNatClampNeg (-2)) x = true ∧ cV Γ l h mX2_takeOut [.ref x, .int (p2 - p2 / 100 * 100)] (sI (sI (sI G a1 s1.toNatClampNeg s2) a7 (p3 + 3).toNatClampNeg (-2)) x 18 ((gI (sI (sI G a1 s1.toNatClampNeg s2) a7 (p3 + 3).toNatClampNeg (-2)) x 18) + 1)) bc bs fun Gr13 br13 sr13 => gC Gr13 x = kO 1 ∧ cI Γ l h mX2_violationAt [.ref x, .int 0] Gr13 br13 sr13 fun r15 Gr15 br15 sr15 => GW Γ l mX2_repair h MC MS Q 32 [(0, va_rf (some x)), (1, .int p1), (2, .int r15)] [] Gr15 br15 sr15)) : GW Γ l mX2_repair h MC MS Q 89 [(0, va_rf (some x)), (1, .int p1), (2, .int p2), (3, .int p3)] [.int s2, .int s1, va_rf s0] G bc bs := by
  obtain ⟨a1, e2, F⟩ := F
  obtain ⟨c3, F⟩ := F
  obtain ⟨m4, F⟩ := F
  obtain ⟨k5, F⟩ := F
  refine h_iast e2 c3 m4 k5 dX2_repair_89 ?_
  refine g_aload_n dX2_repair_90 rfl 0 rfl ?_
  obtain ⟨c6, F⟩ := F
  refine h_get (v := va_rf (gR (sI G a1 s1.toNatClampNeg s2) x 17)) 1 17 (C := RX2) (T := TX2) (N := 30) rfl in_X2 (by decide) q2006 (Or.inl rfl) rfl c6 rfl dX2_repair_91 ?_
  refine g_iload_n dX2_repair_94 rfl 3 rfl ?_
  refine g_iconst (v := 3) dX2_repair_95 (by decide) ?_
  refine g_iadd dX2_repair_96 ?_
  refine g_bipush (v := (-2)) dX2_repair_97 (by decide) ?_
  obtain ⟨a7, e8, F⟩ := F
  obtain ⟨c9, F⟩ := F
  obtain ⟨m10, F⟩ := F
  obtain ⟨k11, F⟩ := F
  refine h_iast e8 c9 m10 k11 dX2_repair_99 ?_
  refine g_aload_n dX2_repair_100 rfl 0 rfl ?_
  refine g_dup dX2_repair_101 (va_rf_cat _) ?_
  refine h_get (v := .int (gI (sI (sI G a1 s1.toNatClampNeg s2) a7 (p3 + 3).toNatClampNeg (-2)) x 18)) 1 18 (C := RX2) (T := TX2) (N := 30) rfl in_X2 (by decide) q2007 (Or.inl rfl) rfl c6 rfl dX2_repair_102 ?_
  refine g_iconst (v := 1) dX2_repair_105 (by decide) ?_
  refine g_iadd dX2_repair_106 ?_
  obtain ⟨m12, F⟩ := F
  refine h_putI (mi := mX2_repair) 1 18 (C := RX2) (T := TX2) (N := 30) rfl in_X2 tyX2_ok nmX2 (by decide) q2007 (Or.inl rfl) (Or.inl rfl) rfl rfl c6 m12 rfl rfl dX2_repair_107 ?_
  refine g_aload_n dX2_repair_110 rfl 0 rfl ?_
  refine g_iload_n dX2_repair_111 rfl 2 rfl ?_
  refine g_bipush (v := 100) dX2_repair_112 (by decide) ?_
  refine g_irem dX2_repair_114 (by decide) ?_
  refine h_callVV (ci := 1) (C := RX2) (T := TX2) (N := 30) (As := [.int (p2 - p2 / 100 * 100)]) (rest := []) F 1 rfl rfl (lw_V q2225 q2227 qs78 q117 q2228) vm_X2_takeOut (by decide) rfl c6 rfl (room_of sc_nil (Nat.le_of_ble_eq_true rfl)) dX2_repair_115 (fun Gr13 br13 sr13 F => ?_)
  refine g_aload_n dX2_repair_118 rfl 0 rfl ?_
  refine g_iconst (v := 0) dX2_repair_119 (by decide) ?_
  obtain ⟨c16, F⟩ := F
  refine h_callVI (ci := 1) (C := RX2) (T := TX2) (N := 30) (As := [.int 0]) (rest := []) F 1 rfl rfl (lw_V q2184 q2186 qs68 q117 q2187) vm_X2_violationAt (by decide) rfl c16 rfl (room_of sc_nil (Nat.le_of_ble_eq_true rfl)) dX2_repair_120 (fun r15 Gr15 br15 sr15 F => ?_)
  refine s_istore_n (lv' := [(0, va_rf (some x)), (1, .int p1), (2, .int r15), (3, .int p3)]) (cat_R (cat_I (cat_I (cat_I cat_nil)))) dX2_repair_123 rfl (by decide) rfl [1, 2, 0, 3] rfl ?_
  refine g_goto 32 dX2_repair_124 (by decide) ?_
  refine GW.lsub (lv' := [(0, va_rf (some x)), (1, .int p1), (2, .int r15)]) [0, 1, 2] rfl ?_
  exact F
theorem rX2_repair_164 {Γ : GE} {l : Launch} {h MC MS : Nat} {Q : Option Value → GH → Prop} {bc bs : Nat} {G : GH} (x : Nat) (p1 : Int32) (p2 : Int32) (F : ((p1 ≤ p2 → (gC G x = kO 1 ∧ Q (some (.int (gI G x 18))) G)) ∧ (¬ p1 ≤ p2 → (GW Γ l mX2_repair h MC MS Q 171 [(0, va_rf (some x)), (1, .int p1), (2, .int p2), (3, .int 0)] [] G bc bs)))) : GW Γ l mX2_repair h MC MS Q 164 [(0, va_rf (some x)), (1, .int p1), (2, .int p2)] [] G bc bs := by
  refine g_iload_n dX2_repair_164 rfl 2 rfl ?_
  refine g_iload_n dX2_repair_165 rfl 1 rfl ?_
  refine g_icmp_ge 235 dX2_repair_166 (by decide) (fun h2 => ?_) (fun h2 => ?_)
  · have F := F.1 h2
    refine g_aload_n dX2_repair_235 rfl 0 rfl ?_
    obtain ⟨c1, F⟩ := F
    refine h_get (v := .int (gI G x 18)) 1 18 (C := RX2) (T := TX2) (N := 30) rfl in_X2 (by decide) q2007 (Or.inl rfl) rfl c1 rfl dX2_repair_236 ?_
    exact g_iret rfl dX2_repair_239 F
  · have F := F.2 h2
    refine g_iconst (v := 0) dX2_repair_169 (by decide) ?_
    refine s_istore_n (lv' := [(0, va_rf (some x)), (1, .int p1), (2, .int p2), (3, .int 0)]) (cat_R (cat_I (cat_I cat_nil))) dX2_repair_170 rfl (by decide) rfl [1, 2, 3, 0] rfl ?_
    exact F
theorem rX2_repair_171 {Γ : GE} {l : Launch} {h MC MS : Nat} {Q : Option Value → GH → Prop} {bc bs : Nat} {G : GH} (x : Nat) (p1 : Int32) (p2 : Int32) (p3 : Int32) (F : (gC G x = kO 1 ∧ (((gI G x 18) ≤ p3 → (GW Γ l mX2_repair h MC MS Q 164 [(0, va_rf (some x)), (1, .int p1), (2, .int (p2 + 1))] [] G bc bs)) ∧ (¬ (gI G x 18) ≤ p3 → (∃ a2, (gR G x 17) = some a2 ∧ gC G a2 = kA 0 ∧ vp_in ((4 * p3) + 1) (gL G a2) ∧ ∃ a6, (gR G x 16) = some a6 ∧ gC G a6 = kA 0 ∧ vp_in p2 (gL G a6) ∧ ((¬ (gI G a2 ((4 * p3) + 1).toNatClampNeg) = (gI G a6 p2.toNatClampNeg) → (GW Γ l mX2_repair h MC MS Q 171 [(0, va_rf (some x)), (1, .int p1), (2, .int p2), (3, .int (p3 + 1))] [] G bc bs)) ∧ ((gI G a2 ((4 * p3) + 1).toNatClampNeg) = (gI G a6 p2.toNatClampNeg) → (vp_in ((4 * p3) + 2) (gL G a2) ∧ ((¬ (gI G a2 ((4 * p3) + 2).toNatClampNeg) = 1 → (GW Γ l mX2_repair h MC MS Q 171 [(0, va_rf (some x)), (1, .int p1), (2, .int p2), (3, .int (p3 + 1))] [] G bc bs)) ∧ ((gI G a2 ((4 * p3) + 2).toNatClampNeg) = 1 → (vp_in p2 (gL G a6) ∧ cV Γ l h mX2_callFor [.ref x, .int p3, .int (gI G a6 p2.toNatClampNeg)] G bc bs fun Gr12 br12 sr12 => GW Γ l mX2_repair h MC MS Q 171 [(0, va_rf (some x)), (1, .int p1), (2, .int p2), (3, .int (p3 + 1))] [] Gr12 br12 sr12))))))))))) : GW Γ l mX2_repair h MC MS Q 171 [(0, va_rf (some x)), (1, .int p1), (2, .int p2), (3, .int p3)] [] G bc bs := by
  refine g_iload_n dX2_repair_171 rfl 3 rfl ?_
  refine g_aload_n dX2_repair_172 rfl 0 rfl ?_
  obtain ⟨c1, F⟩ := F
  refine h_get (v := .int (gI G x 18)) 1 18 (C := RX2) (T := TX2) (N := 30) rfl in_X2 (by decide) q2007 (Or.inl rfl) rfl c1 rfl dX2_repair_173 ?_
  refine g_icmp_ge 229 dX2_repair_176 (by decide) (fun h16 => ?_) (fun h16 => ?_)
  · have F := F.1 h16
    refine s_iinc (v := (p2 + 1)) (lv' := [(0, va_rf (some x)), (1, .int p1), (2, .int (p2 + 1)), (3, .int p3)]) (cat_R (cat_I (cat_I (cat_I cat_nil)))) dX2_repair_229 (k0 := 2) rfl rfl (by decide) rfl [1, 2, 0, 3] rfl ?_
    refine g_goto 164 dX2_repair_232 (by decide) ?_
    refine GW.lsub (lv' := [(0, va_rf (some x)), (1, .int p1), (2, .int (p2 + 1))]) [0, 1, 2] rfl ?_
    exact F
  · have F := F.2 h16
    refine g_aload_n dX2_repair_179 rfl 0 rfl ?_
    refine h_get (v := va_rf (gR G x 17)) 1 17 (C := RX2) (T := TX2) (N := 30) rfl in_X2 (by decide) q2006 (Or.inl rfl) rfl c1 rfl dX2_repair_180 ?_
    refine g_iconst (v := 4) dX2_repair_183 (by decide) ?_
    refine g_iload_n dX2_repair_184 rfl 3 rfl ?_
    refine g_imul dX2_repair_185 ?_
    refine g_iconst (v := 1) dX2_repair_186 (by decide) ?_
    refine g_iadd dX2_repair_187 ?_
    obtain ⟨a2, e3, F⟩ := F
    obtain ⟨c4, F⟩ := F
    obtain ⟨k5, F⟩ := F
    refine h_iald e3 c4 k5 dX2_repair_188 ?_
    refine g_aload_n dX2_repair_189 rfl 0 rfl ?_
    refine h_get (v := va_rf (gR G x 16)) 1 16 (C := RX2) (T := TX2) (N := 30) rfl in_X2 (by decide) q2005 (Or.inl rfl) rfl c1 rfl dX2_repair_190 ?_
    refine g_iload_n dX2_repair_193 rfl 2 rfl ?_
    obtain ⟨a6, e7, F⟩ := F
    obtain ⟨c8, F⟩ := F
    obtain ⟨k9, F⟩ := F
    refine h_iald e7 c8 k9 dX2_repair_194 ?_
    refine g_icmp_ne 223 dX2_repair_195 (by decide) (fun h15 => ?_) (fun h15 => ?_)
    · have F := F.1 h15
      refine s_iinc (v := (p3 + 1)) (lv' := [(0, va_rf (some x)), (1, .int p1), (2, .int p2), (3, .int (p3 + 1))]) (cat_R (cat_I (cat_I (cat_I cat_nil)))) dX2_repair_223 (k0 := 3) rfl rfl (by decide) rfl [1, 2, 3, 0] rfl ?_
      refine g_goto 171 dX2_repair_226 (by decide) ?_
      exact F
    · have F := F.2 h15
      refine g_aload_n dX2_repair_198 rfl 0 rfl ?_
      refine h_get (v := va_rf (gR G x 17)) 1 17 (C := RX2) (T := TX2) (N := 30) rfl in_X2 (by decide) q2006 (Or.inl rfl) rfl c1 rfl dX2_repair_199 ?_
      refine g_iconst (v := 4) dX2_repair_202 (by decide) ?_
      refine g_iload_n dX2_repair_203 rfl 3 rfl ?_
      refine g_imul dX2_repair_204 ?_
      refine g_iconst (v := 2) dX2_repair_205 (by decide) ?_
      refine g_iadd dX2_repair_206 ?_
      obtain ⟨k10, F⟩ := F
      refine h_iald e3 c4 k10 dX2_repair_207 ?_
      refine g_iconst (v := 1) dX2_repair_208 (by decide) ?_
      refine g_icmp_ne 223 dX2_repair_209 (by decide) (fun h14 => ?_) (fun h14 => ?_)
      · have F := F.1 h14
        refine s_iinc (v := (p3 + 1)) (lv' := [(0, va_rf (some x)), (1, .int p1), (2, .int p2), (3, .int (p3 + 1))]) (cat_R (cat_I (cat_I (cat_I cat_nil)))) dX2_repair_223 (k0 := 3) rfl rfl (by decide) rfl [1, 2, 3, 0] rfl ?_
        refine g_goto 171 dX2_repair_226 (by decide) ?_
        exact F
      · have F := F.2 h14
        refine g_aload_n dX2_repair_212 rfl 0 rfl ?_
        refine g_iload_n dX2_repair_213 rfl 3 rfl ?_
        refine g_aload_n dX2_repair_214 rfl 0 rfl ?_
        refine h_get (v := va_rf (gR G x 16)) 1 16 (C := RX2) (T := TX2) (N := 30) rfl in_X2 (by decide) q2005 (Or.inl rfl) rfl c1 rfl dX2_repair_215 ?_
        refine g_iload_n dX2_repair_218 rfl 2 rfl ?_
        obtain ⟨k11, F⟩ := F
        refine h_iald e7 c8 k11 dX2_repair_219 ?_
        refine h_callVV (ci := 1) (C := RX2) (T := TX2) (N := 30) (As := [.int p3, .int (gI G a6 p2.toNatClampNeg)]) (rest := []) F 2 rfl rfl (lw_V q2389 q2391 qs94 q117 q2392) vm_X2_callFor (by decide) rfl c1 rfl (room_of sc_nil (Nat.le_of_ble_eq_true rfl)) dX2_repair_220 (fun Gr12 br12 sr12 F => ?_)
        refine s_iinc (v := (p3 + 1)) (lv' := [(0, va_rf (some x)), (1, .int p1), (2, .int p2), (3, .int (p3 + 1))]) (cat_R (cat_I (cat_I (cat_I cat_nil)))) dX2_repair_223 (k0 := 3) rfl rfl (by decide) rfl [1, 2, 3, 0] rfl ?_
        refine g_goto 171 dX2_repair_226 (by decide) ?_
        exact F
theorem rX2_callFor_0 {Γ : GE} {l : Launch} {h MC MS : Nat} {Q : Option Value → GH → Prop} {bc bs : Nat} {G : GH} (x : Nat) (p1 : Int32) (p2 : Int32) (F : (gC G x = kO 1 ∧ cI Γ l h mX2_calledFor [.ref x, .int p2] G bc bs fun r1 Gr1 br1 sr1 => gC Gr1 x = kO 1 ∧ ∃ a5, (gR Gr1 x 17) = some a5 ∧ gC Gr1 a5 = kA 0 ∧ gM Gr1 a5 = true ∧ vp_in ((4 * p1) + 3) (gL Gr1 a5) ∧ ((r1 < 0 → (Q none (sI Gr1 a5 ((4 * p1) + 3).toNatClampNeg r1))) ∧ (¬ r1 < 0 → (cI Γ l h mX2_enter [.ref x, .int r1, .int p2, .int 1] (sI Gr1 a5 ((4 * p1) + 3).toNatClampNeg r1) br1 sr1 fun r10 Gr10 br10 sr10 => Q none Gr10))))) : GW Γ l mX2_callFor h MC MS Q 0 [(0, va_rf (some x)), (1, .int p1), (2, .int p2)] [] G bc bs := by
  refine g_aload_n dX2_callFor_0 rfl 0 rfl ?_
  refine g_iload_n dX2_callFor_1 rfl 2 rfl ?_
  obtain ⟨c2, F⟩ := F
  refine h_callVI (ci := 1) (C := RX2) (T := TX2) (N := 30) (As := [.int p2]) (rest := []) F 1 rfl rfl (lw_V q2361 q2363 qs90 q117 q2364) vm_X2_calledFor (by decide) rfl c2 rfl (room_of sc_nil (Nat.le_of_ble_eq_true rfl)) dX2_callFor_2 (fun r1 Gr1 br1 sr1 F => ?_)
  refine s_istore_n (lv' := [(0, va_rf (some x)), (1, .int p1), (2, .int p2), (3, .int r1)]) (cat_R (cat_I (cat_I cat_nil))) dX2_callFor_5 rfl (by decide) rfl [1, 2, 3, 0] rfl ?_
  refine g_aload_n dX2_callFor_6 rfl 0 rfl ?_
  obtain ⟨c4, F⟩ := F
  refine h_get (v := va_rf (gR Gr1 x 17)) 1 17 (C := RX2) (T := TX2) (N := 30) rfl in_X2 (by decide) q2006 (Or.inl rfl) rfl c4 rfl dX2_callFor_7 ?_
  refine g_iconst (v := 4) dX2_callFor_10 (by decide) ?_
  refine g_iload_n dX2_callFor_11 rfl 1 rfl ?_
  refine g_imul dX2_callFor_12 ?_
  refine g_iconst (v := 3) dX2_callFor_13 (by decide) ?_
  refine g_iadd dX2_callFor_14 ?_
  refine g_iload_n dX2_callFor_15 rfl 3 rfl ?_
  obtain ⟨a5, e6, F⟩ := F
  obtain ⟨c7, F⟩ := F
  obtain ⟨m8, F⟩ := F
  obtain ⟨k9, F⟩ := F
  refine h_iast e6 c7 m8 k9 dX2_callFor_16 ?_
  refine g_iload_n dX2_callFor_17 rfl 3 rfl ?_
  refine g_if_lt 30 dX2_callFor_18 (by decide) (fun h12 => ?_) (fun h12 => ?_)
  · have F := F.1 h12
    exact g_vret rfl dX2_callFor_30 F
  · have F := F.2 h12
    refine g_aload_n dX2_callFor_21 rfl 0 rfl ?_
    refine g_iload_n dX2_callFor_22 rfl 3 rfl ?_
    refine g_iload_n dX2_callFor_23 rfl 2 rfl ?_
    refine g_iconst (v := 1) dX2_callFor_24 (by decide) ?_
    refine h_callVI (ci := 1) (C := RX2) (T := TX2) (N := 30) (As := [.int r1, .int p2, .int 1]) (rest := []) F 3 rfl rfl (lw_V q2229 q2231 qs79 q117 q2232) vm_X2_enter (by decide) rfl c4 rfl (room_of sc_nil (Nat.le_of_ble_eq_true rfl)) dX2_callFor_25 (fun r10 Gr10 br10 sr10 F => ?_)
    refine s_istore (lv' := [(0, va_rf (some x)), (1, .int p1), (2, .int p2), (3, .int r1), (4, .int r10)]) (cat_R (cat_I (cat_I (cat_I cat_nil)))) dX2_callFor_28 (by decide) rfl [1, 2, 3, 4, 0] rfl ?_
    exact g_vret rfl dX2_callFor_30 F
theorem rX2_repaired_0 {Γ : GE} {l : Launch} {h MC MS : Nat} {Q : Option Value → GH → Prop} {bc bs : Nat} {G : GH} (x : Nat) (p1 : Int32) (p2 : Int32) (F : (cI Γ l h mX2_in [.int p2, .int 0, .int 3] G bc bs fun r1 Gr1 br1 sr1 => ((¬ r1 = 0 → (gC Gr1 x = kO 1 ∧ cI Γ l h mX2_in [.int p1, .int 0, .int ((gI Gr1 x 18) - 1)] Gr1 br1 sr1 fun r4 Gr4 br4 sr4 => ((r4 = 0 → (Q (some (.int (-2))) Gr4)) ∧ (¬ r4 = 0 → (gC Gr4 x = kO 1 ∧ ∃ a7, (gR Gr4 x 17) = some a7 ∧ gC Gr4 a7 = kA 0 ∧ vp_in ((4 * p1) + p2) (gL Gr4 a7) ∧ Q (some (.int (gI Gr4 a7 ((4 * p1) + p2).toNatClampNeg))) Gr4))))) ∧ (r1 = 0 → (Q (some (.int (-1))) Gr1))))) : GW Γ l mX2_repaired h MC MS Q 0 [(0, va_rf (some x)), (1, .int p1), (2, .int p2)] [] G bc bs := by
  refine g_iload_n dX2_repaired_0 rfl 2 rfl ?_
  refine g_iconst (v := 0) dX2_repaired_1 (by decide) ?_
  refine g_iconst (v := 3) dX2_repaired_2 (by decide) ?_
  refine h_callSI (As := [.int p2, .int 0, .int 3]) (rest := []) F 3 rfl (lw_S q2085 q2086 q117 q2087) vm_X2_in.2 (by decide) rfl (room_of sc_nil (Nat.le_of_ble_eq_true rfl)) dX2_repaired_3 (fun r1 Gr1 br1 sr1 F => ?_)
  refine g_if_ne 11 dX2_repaired_6 (by decide) (fun h12 => ?_) (fun h12 => ?_)
  · have F := F.1 h12
    refine g_iload_n dX2_repaired_11 rfl 1 rfl ?_
    refine g_iconst (v := 0) dX2_repaired_12 (by decide) ?_
    refine g_aload_n dX2_repaired_13 rfl 0 rfl ?_
    obtain ⟨c3, F⟩ := F
    refine h_get (v := .int (gI Gr1 x 18)) 1 18 (C := RX2) (T := TX2) (N := 30) rfl in_X2 (by decide) q2007 (Or.inl rfl) rfl c3 rfl dX2_repaired_14 ?_
    refine g_iconst (v := 1) dX2_repaired_17 (by decide) ?_
    refine g_isub dX2_repaired_18 ?_
    refine h_callSI (As := [.int p1, .int 0, .int ((gI Gr1 x 18) - 1)]) (rest := []) F 3 rfl (lw_S q2085 q2086 q117 q2087) vm_X2_in.2 (by decide) rfl (room_of sc_nil (Nat.le_of_ble_eq_true rfl)) dX2_repaired_19 (fun r4 Gr4 br4 sr4 F => ?_)
    refine g_if_eq 38 dX2_repaired_22 (by decide) (fun h11 => ?_) (fun h11 => ?_)
    · have F := F.1 h11
      refine g_bipush (v := (-2)) dX2_repaired_38 (by decide) ?_
      exact g_iret rfl dX2_repaired_40 F
    · have F := F.2 h11
      refine g_aload_n dX2_repaired_25 rfl 0 rfl ?_
      obtain ⟨c6, F⟩ := F
      refine h_get (v := va_rf (gR Gr4 x 17)) 1 17 (C := RX2) (T := TX2) (N := 30) rfl in_X2 (by decide) q2006 (Or.inl rfl) rfl c6 rfl dX2_repaired_26 ?_
      refine g_iconst (v := 4) dX2_repaired_29 (by decide) ?_
      refine g_iload_n dX2_repaired_30 rfl 1 rfl ?_
      refine g_imul dX2_repaired_31 ?_
      refine g_iload_n dX2_repaired_32 rfl 2 rfl ?_
      refine g_iadd dX2_repaired_33 ?_
      obtain ⟨a7, e8, F⟩ := F
      obtain ⟨c9, F⟩ := F
      obtain ⟨k10, F⟩ := F
      refine h_iald e8 c9 k10 dX2_repaired_34 ?_
      refine g_goto 40 dX2_repaired_35 (by decide) ?_
      exact g_iret rfl dX2_repaired_40 F
  · have F := F.2 h12
    refine g_iconst (v := (-1)) dX2_repaired_9 (by decide) ?_
    exact g_iret rfl dX2_repaired_10 F
theorem rX2_bestMinutes_0 {Γ : GE} {l : Launch} {h MC MS : Nat} {Q : Option Value → GH → Prop} {bc bs : Nat} {G : GH} (x : Nat) (p1 : Int32) (F : (gC G x = kO 1 ∧ cI Γ l h mX2_isCrew [.ref x, .int p1] G bc bs fun r1 Gr1 br1 sr1 => ((¬ r1 = 0 → (gC Gr1 x = kO 1 ∧ cV Γ l h mX2_findBest [.ref x, .int p1] Gr1 br1 sr1 fun Gr4 br4 sr4 => gC Gr4 x = kO 1 ∧ ((¬ (gI Gr4 x 21) = 0 → (Q (some (.int (gI Gr4 x 22))) Gr4)) ∧ ((gI Gr4 x 21) = 0 → (Q (some (.int (-2))) Gr4))))) ∧ (r1 = 0 → (Q (some (.int (-1))) Gr1))))) : GW Γ l mX2_bestMinutes h MC MS Q 0 [(0, va_rf (some x)), (1, .int p1)] [] G bc bs := by
  refine g_aload_n dX2_bestMinutes_0 rfl 0 rfl ?_
  refine g_iload_n dX2_bestMinutes_1 rfl 1 rfl ?_
  obtain ⟨c2, F⟩ := F
  refine h_callVI (ci := 1) (C := RX2) (T := TX2) (N := 30) (As := [.int p1]) (rest := []) F 1 rfl rfl (lw_V q2160 q2162 qs62 q117 q2163) vm_X2_isCrew (by decide) rfl c2 rfl (room_of sc_nil (Nat.le_of_ble_eq_true rfl)) dX2_bestMinutes_2 (fun r1 Gr1 br1 sr1 F => ?_)
  refine g_if_ne 10 dX2_bestMinutes_5 (by decide) (fun h9 => ?_) (fun h9 => ?_)
  · have F := F.1 h9
    refine g_aload_n dX2_bestMinutes_10 rfl 0 rfl ?_
    refine g_iload_n dX2_bestMinutes_11 rfl 1 rfl ?_
    obtain ⟨c5, F⟩ := F
    refine h_callVV (ci := 1) (C := RX2) (T := TX2) (N := 30) (As := [.int p1]) (rest := []) F 1 rfl rfl (lw_V q2401 q2403 qs95 q117 q2404) vm_X2_findBest (by decide) rfl c5 rfl (room_of sc_nil (Nat.le_of_ble_eq_true rfl)) dX2_bestMinutes_12 (fun Gr4 br4 sr4 F => ?_)
    refine g_aload_n dX2_bestMinutes_15 rfl 0 rfl ?_
    obtain ⟨c7, F⟩ := F
    refine h_get (v := .int (gI Gr4 x 21)) 1 21 (C := RX2) (T := TX2) (N := 30) rfl in_X2 (by decide) q2010 (Or.inl rfl) rfl c7 rfl dX2_bestMinutes_16 ?_
    refine g_if_ne 27 dX2_bestMinutes_19 (by decide) (fun h8 => ?_) (fun h8 => ?_)
    · have F := F.1 h8
      refine g_aload_n dX2_bestMinutes_27 rfl 0 rfl ?_
      refine h_get (v := .int (gI Gr4 x 22)) 1 22 (C := RX2) (T := TX2) (N := 30) rfl in_X2 (by decide) q2011 (Or.inl rfl) rfl c7 rfl dX2_bestMinutes_28 ?_
      exact g_iret rfl dX2_bestMinutes_31 F
    · have F := F.2 h8
      refine g_bipush (v := (-2)) dX2_bestMinutes_22 (by decide) ?_
      refine g_goto 31 dX2_bestMinutes_24 (by decide) ?_
      exact g_iret rfl dX2_bestMinutes_31 F
  · have F := F.2 h9
    refine g_iconst (v := (-1)) dX2_bestMinutes_8 (by decide) ?_
    exact g_iret rfl dX2_bestMinutes_9 F
theorem rX2_findBest_0 {Γ : GE} {l : Launch} {h MC MS : Nat} {Q : Option Value → GH → Prop} {bc bs : Nat} {G : GH} (x : Nat) (p1 : Int32) (F : (gC G x = kO 1 ∧ gM G x = true ∧ cV Γ l h mX2_take [.ref x, .int p1] (sI (sI G x 21 0) x 22 0) bc bs fun Gr3 br3 sr3 => gC Gr3 x = kO 1 ∧ cV Γ l h mX2_search [.ref x, .int 0, .int 0, .int (-1)] Gr3 br3 sr3 fun Gr5 br5 sr5 => Q none Gr5)) : GW Γ l mX2_findBest h MC MS Q 0 [(0, va_rf (some x)), (1, .int p1)] [] G bc bs := by
  refine g_aload_n dX2_findBest_0 rfl 0 rfl ?_
  refine g_iconst (v := 0) dX2_findBest_1 (by decide) ?_
  obtain ⟨c1, F⟩ := F
  obtain ⟨m2, F⟩ := F
  refine h_putI (mi := mX2_findBest) 1 21 (C := RX2) (T := TX2) (N := 30) rfl in_X2 tyX2_ok nmX2 (by decide) q2010 (Or.inl rfl) (Or.inl rfl) rfl rfl c1 m2 rfl rfl dX2_findBest_2 ?_
  refine g_aload_n dX2_findBest_5 rfl 0 rfl ?_
  refine g_iconst (v := 0) dX2_findBest_6 (by decide) ?_
  refine h_putI (mi := mX2_findBest) 1 22 (C := RX2) (T := TX2) (N := 30) rfl in_X2 tyX2_ok nmX2 (by decide) q2011 (Or.inl rfl) (Or.inl rfl) rfl rfl c1 m2 rfl rfl dX2_findBest_7 ?_
  refine g_aload_n dX2_findBest_10 rfl 0 rfl ?_
  refine g_iload_n dX2_findBest_11 rfl 1 rfl ?_
  refine h_callVV (ci := 1) (C := RX2) (T := TX2) (N := 30) (As := [.int p1]) (rest := []) F 1 rfl rfl (lw_V q2168 q2170 qs64 q117 q2171) vm_X2_take (by decide) rfl c1 rfl (room_of sc_nil (Nat.le_of_ble_eq_true rfl)) dX2_findBest_12 (fun Gr3 br3 sr3 F => ?_)
  refine g_aload_n dX2_findBest_15 rfl 0 rfl ?_
  refine g_iconst (v := 0) dX2_findBest_16 (by decide) ?_
  refine g_iconst (v := 0) dX2_findBest_17 (by decide) ?_
  refine g_iconst (v := (-1)) dX2_findBest_18 (by decide) ?_
  obtain ⟨c6, F⟩ := F
  refine h_callVV (ci := 1) (C := RX2) (T := TX2) (N := 30) (As := [.int 0, .int 0, .int (-1)]) (rest := []) F 3 rfl rfl (lw_V q2405 q2407 qs96 q117 q2408) vm_X2_search (by decide) rfl c6 rfl (room_of sc_nil (Nat.le_of_ble_eq_true rfl)) dX2_findBest_19 (fun Gr5 br5 sr5 F => ?_)
  exact g_vret rfl dX2_findBest_22 F
theorem rX2_search_0 {Γ : GE} {l : Launch} {h MC MS : Nat} {Q : Option Value → GH → Prop} {bc bs : Nat} {G : GH} (x : Nat) (p1 : Int32) (p2 : Int32) (p3 : Int32) (F : ((p1 ≤ 0 → (GW Γ l mX2_search h MC MS Q 62 [(0, va_rf (some x)), (1, .int p1), (2, .int p2), (3, .int p3), (4, .int 0)] [] G bc bs)) ∧ (¬ p1 ≤ 0 → (gC G x = kO 1 ∧ cI Γ l h mX2_isHome [.ref x] G bc bs fun r1 Gr1 br1 sr1 => ((r1 = 0 → (GW Γ l mX2_search h MC MS Q 62 [(0, va_rf (some x)), (1, .int p1), (2, .int p2), (3, .int p3), (4, .int 0)] [] Gr1 br1 sr1)) ∧ (¬ r1 = 0 → (gC Gr1 x = kO 1 ∧ (((gI Gr1 x 22) < p2 → (GW Γ l mX2_search h MC MS Q 35 [(0, va_rf (some x)), (1, .int p1), (2, .int p2), (3, .int p3)] [] Gr1 br1 sr1)) ∧ (¬ (gI Gr1 x 22) < p2 → ((¬ p2 = (gI Gr1 x 22) → (GW Γ l mX2_search h MC MS Q 62 [(0, va_rf (some x)), (1, .int p1), (2, .int p2), (3, .int p3), (4, .int 0)] [] Gr1 br1 sr1)) ∧ (p2 = (gI Gr1 x 22) → (((gI Gr1 x 21) ≤ p1 → (GW Γ l mX2_search h MC MS Q 62 [(0, va_rf (some x)), (1, .int p1), (2, .int p2), (3, .int p3), (4, .int 0)] [] Gr1 br1 sr1)) ∧ (¬ (gI Gr1 x 21) ≤ p1 → (GW Γ l mX2_search h MC MS Q 35 [(0, va_rf (some x)), (1, .int p1), (2, .int p2), (3, .int p3)] [] Gr1 br1 sr1)))))))))))))) : GW Γ l mX2_search h MC MS Q 0 [(0, va_rf (some x)), (1, .int p1), (2, .int p2), (3, .int p3)] [] G bc bs := by
  refine g_iload_n dX2_search_0 rfl 1 rfl ?_
  refine g_if_le 59 dX2_search_1 (by decide) (fun h9 => ?_) (fun h9 => ?_)
  · have F := F.1 h9
    refine g_iconst (v := 0) dX2_search_59 (by decide) ?_
    refine s_istore (lv' := [(0, va_rf (some x)), (1, .int p1), (2, .int p2), (3, .int p3), (4, .int 0)]) (cat_R (cat_I (cat_I (cat_I cat_nil)))) dX2_search_60 (by decide) rfl [1, 2, 3, 4, 0] rfl ?_
    exact F
  · have F := F.2 h9
    refine g_aload_n dX2_search_4 rfl 0 rfl ?_
    obtain ⟨c2, F⟩ := F
    refine h_callVI (ci := 1) (C := RX2) (T := TX2) (N := 30) (As := []) (rest := []) F 0 rfl rfl (lw_V q2301 q2303 qs84 q117 q2304) vm_X2_isHome (by decide) rfl c2 rfl (room_of sc_nil (Nat.le_of_ble_eq_true rfl)) dX2_search_5 (fun r1 Gr1 br1 sr1 F => ?_)
    refine g_if_eq 59 dX2_search_8 (by decide) (fun h8 => ?_) (fun h8 => ?_)
    · have F := F.1 h8
      refine g_iconst (v := 0) dX2_search_59 (by decide) ?_
      refine s_istore (lv' := [(0, va_rf (some x)), (1, .int p1), (2, .int p2), (3, .int p3), (4, .int 0)]) (cat_R (cat_I (cat_I (cat_I cat_nil)))) dX2_search_60 (by decide) rfl [1, 2, 3, 4, 0] rfl ?_
      exact F
    · have F := F.2 h8
      refine g_iload_n dX2_search_11 rfl 2 rfl ?_
      refine g_aload_n dX2_search_12 rfl 0 rfl ?_
      obtain ⟨c4, F⟩ := F
      refine h_get (v := .int (gI Gr1 x 22)) 1 22 (C := RX2) (T := TX2) (N := 30) rfl in_X2 (by decide) q2011 (Or.inl rfl) rfl c4 rfl dX2_search_13 ?_
      refine g_icmp_gt 35 dX2_search_16 (by decide) (fun h7 => ?_) (fun h7 => ?_)
      · have F := F.1 h7
        exact F
      · have F := F.2 h7
        refine g_iload_n dX2_search_19 rfl 2 rfl ?_
        refine g_aload_n dX2_search_20 rfl 0 rfl ?_
        refine h_get (v := .int (gI Gr1 x 22)) 1 22 (C := RX2) (T := TX2) (N := 30) rfl in_X2 (by decide) q2011 (Or.inl rfl) rfl c4 rfl dX2_search_21 ?_
        refine g_icmp_ne 59 dX2_search_24 (by decide) (fun h6 => ?_) (fun h6 => ?_)
        · have F := F.1 h6
          refine g_iconst (v := 0) dX2_search_59 (by decide) ?_
          refine s_istore (lv' := [(0, va_rf (some x)), (1, .int p1), (2, .int p2), (3, .int p3), (4, .int 0)]) (cat_R (cat_I (cat_I (cat_I cat_nil)))) dX2_search_60 (by decide) rfl [1, 2, 3, 4, 0] rfl ?_
          exact F
        · have F := F.2 h6
          refine g_iload_n dX2_search_27 rfl 1 rfl ?_
          refine g_aload_n dX2_search_28 rfl 0 rfl ?_
          refine h_get (v := .int (gI Gr1 x 21)) 1 21 (C := RX2) (T := TX2) (N := 30) rfl in_X2 (by decide) q2010 (Or.inl rfl) rfl c4 rfl dX2_search_29 ?_
          refine g_icmp_ge 59 dX2_search_32 (by decide) (fun h5 => ?_) (fun h5 => ?_)
          · have F := F.1 h5
            refine g_iconst (v := 0) dX2_search_59 (by decide) ?_
            refine s_istore (lv' := [(0, va_rf (some x)), (1, .int p1), (2, .int p2), (3, .int p3), (4, .int 0)]) (cat_R (cat_I (cat_I (cat_I cat_nil)))) dX2_search_60 (by decide) rfl [1, 2, 3, 4, 0] rfl ?_
            exact F
          · have F := F.2 h5
            exact F
theorem rX2_search_35 {Γ : GE} {l : Launch} {h MC MS : Nat} {Q : Option Value → GH → Prop} {bc bs : Nat} {G : GH} (x : Nat) (p1 : Int32) (p2 : Int32) (p3 : Int32) (F : (gC G x = kO 1 ∧ gM G x = true ∧ ∃ a3, (gR (sI (sI G x 22 p2) x 21 p1) x 19) = some a3 ∧ gC (sI (sI G x 22 p2) x 21 p1) a3 = kA 0 ∧ gM (sI (sI G x 22 p2) x 21 p1) a3 = true ∧ ∃ a7, (gR (sI (sI G x 22 p2) x 21 p1) x 20) = some a7 ∧ gC (sI (sI G x 22 p2) x 21 p1) a7 = kA 0 ∧ gM (sI (sI G x 22 p2) x 21 p1) a7 = true ∧ ¬ p1 < 0 ∧ (0 : Int32).toNatClampNeg + p1.toNatClampNeg ≤ gL (sI (sI G x 22 p2) x 21 p1) a3 ∧ (0 : Int32).toNatClampNeg + p1.toNatClampNeg ≤ gL (sI (sI G x 22 p2) x 21 p1) a7 ∧ 0 < h ∧ ∀ H15, H15 = (wI (sI (sI G x 22 p2) x 21 p1) a7 (va_cpy (gI (sI (sI G x 22 p2) x 21 p1) a3) (gI (sI (sI G x 22 p2) x 21 p1) a7) (0 : Int32).toNatClampNeg (0 : Int32).toNatClampNeg p1.toNatClampNeg)) → GW Γ l mX2_search h MC MS Q 62 [(0, va_rf (some x)), (1, .int p1), (2, .int p2), (3, .int p3), (4, .int 0)] [] H15 bc bs)) : GW Γ l mX2_search h MC MS Q 35 [(0, va_rf (some x)), (1, .int p1), (2, .int p2), (3, .int p3)] [] G bc bs := by
  refine g_aload_n dX2_search_35 rfl 0 rfl ?_
  refine g_iload_n dX2_search_36 rfl 2 rfl ?_
  obtain ⟨c1, F⟩ := F
  obtain ⟨m2, F⟩ := F
  refine h_putI (mi := mX2_search) 1 22 (C := RX2) (T := TX2) (N := 30) rfl in_X2 tyX2_ok nmX2 (by decide) q2011 (Or.inl rfl) (Or.inl rfl) rfl rfl c1 m2 rfl rfl dX2_search_37 ?_
  refine g_aload_n dX2_search_40 rfl 0 rfl ?_
  refine g_iload_n dX2_search_41 rfl 1 rfl ?_
  refine h_putI (mi := mX2_search) 1 21 (C := RX2) (T := TX2) (N := 30) rfl in_X2 tyX2_ok nmX2 (by decide) q2010 (Or.inl rfl) (Or.inl rfl) rfl rfl c1 m2 rfl rfl dX2_search_42 ?_
  refine g_aload_n dX2_search_45 rfl 0 rfl ?_
  refine h_get (v := va_rf (gR (sI (sI G x 22 p2) x 21 p1) x 19)) 1 19 (C := RX2) (T := TX2) (N := 30) rfl in_X2 (by decide) q2008 (Or.inl rfl) rfl c1 rfl dX2_search_46 ?_
  refine g_iconst (v := 0) dX2_search_49 (by decide) ?_
  refine g_aload_n dX2_search_50 rfl 0 rfl ?_
  refine h_get (v := va_rf (gR (sI (sI G x 22 p2) x 21 p1) x 20)) 1 20 (C := RX2) (T := TX2) (N := 30) rfl in_X2 (by decide) q2009 (Or.inl rfl) rfl c1 rfl dX2_search_51 ?_
  refine g_iconst (v := 0) dX2_search_54 (by decide) ?_
  refine g_iload_n dX2_search_55 rfl 1 rfl ?_
  obtain ⟨a3, e4, F⟩ := F
  obtain ⟨c5, F⟩ := F
  obtain ⟨m6, F⟩ := F
  obtain ⟨a7, e8, F⟩ := F
  obtain ⟨c9, F⟩ := F
  obtain ⟨m10, F⟩ := F
  obtain ⟨k11, F⟩ := F
  obtain ⟨k12, F⟩ := F
  obtain ⟨k13, F⟩ := F
  obtain ⟨k14, F⟩ := F
  refine h_copyi 0 (by decide) q1988 q439 q438 q118 e4 c5 m6 e8 c9 m10 (by decide) (by decide) k11 k12 k13 (fun _ _ => rfl) k14 (room_of sc_nil (Nat.le_of_ble_eq_true rfl)) dX2_search_56 ?_
  obtain ⟨H15, h16⟩ : ∃ g : GH, g = (wI (sI (sI G x 22 p2) x 21 p1) a7 (va_cpy (gI (sI (sI G x 22 p2) x 21 p1) a3) (gI (sI (sI G x 22 p2) x 21 p1) a7) (0 : Int32).toNatClampNeg (0 : Int32).toNatClampNeg p1.toNatClampNeg)) := ⟨_, rfl⟩
  rw [← h16]
  have F := F H15 h16
  refine g_iconst (v := 0) dX2_search_59 (by decide) ?_
  refine s_istore (lv' := [(0, va_rf (some x)), (1, .int p1), (2, .int p2), (3, .int p3), (4, .int 0)]) (cat_R (cat_I (cat_I (cat_I cat_nil)))) dX2_search_60 (by decide) rfl [1, 2, 3, 4, 0] rfl ?_
  exact F
theorem rX2_search_62 {Γ : GE} {l : Launch} {h MC MS : Nat} {Q : Option Value → GH → Prop} {bc bs : Nat} {G : GH} (x : Nat) (p1 : Int32) (p2 : Int32) (p3 : Int32) (p4 : Int32) (F : (gC G x = kO 1 ∧ ∃ a2, (gR G x 0) = some a2 ∧ gC G a2 = kA 0 ∧ vp_in 0 (gL G a2) ∧ (((gI G a2 (0 : Int32).toNatClampNeg) ≤ p4 → (Q none G)) ∧ (¬ (gI G a2 (0 : Int32).toNatClampNeg) ≤ p4 → (((6 : Int32) ≤ p1 → (Q none G)) ∧ (¬ (6 : Int32) ≤ p1 → (cI Γ l h mX2_of [.ref x, .int p4, .int 2] G bc bs fun r6 Gr6 br6 sr6 => ((r6 ≤ p3 → (GW Γ l mX2_search h MC MS Q 62 [(0, va_rf (some x)), (1, .int p1), (2, .int p2), (3, .int p3), (4, .int (p4 + 1))] [] Gr6 br6 sr6)) ∧ (¬ r6 ≤ p3 → (gC Gr6 x = kO 1 ∧ cI Γ l h mX2_isOpen [.ref x, .int p4] Gr6 br6 sr6 fun r8 Gr8 br8 sr8 => ((r8 = 0 → (GW Γ l mX2_search h MC MS Q 62 [(0, va_rf (some x)), (1, .int p1), (2, .int p2), (3, .int p3), (4, .int (p4 + 1))] [] Gr8 br8 sr8)) ∧ (¬ r8 = 0 → (gC Gr8 x = kO 1 ∧ cI Γ l h mX2_put [.ref x, .int p4, .int 1] Gr8 br8 sr8 fun r11 Gr11 br11 sr11 => gC Gr11 x = kO 1 ∧ ((¬ r11 = ((gI Gr11 x 8) - 1) → (cV Γ l h mX2_takeOut [.ref x, .int r11] Gr11 br11 sr11 fun Gr15 br15 sr15 => GW Γ l mX2_search h MC MS Q 62 [(0, va_rf (some x)), (1, .int p1), (2, .int p2), (3, .int p3), (4, .int (p4 + 1))] [] Gr15 br15 sr15)) ∧ (r11 = ((gI Gr11 x 8) - 1) → (cI Γ l h mX2_violationAt [.ref x, .int 0] Gr11 br11 sr11 fun r17 Gr17 br17 sr17 => ((¬ r17 = 0 → (gC Gr17 x = kO 1 ∧ cV Γ l h mX2_takeOut [.ref x, .int r11] Gr17 br17 sr17 fun Gr19 br19 sr19 => GW Γ l mX2_search h MC MS Q 62 [(0, va_rf (some x)), (1, .int p1), (2, .int p2), (3, .int p3), (4, .int (p4 + 1))] [] Gr19 br19 sr19)) ∧ (r17 = 0 → (gC Gr17 x = kO 1 ∧ ∃ a23, (gR Gr17 x 19) = some a23 ∧ gC Gr17 a23 = kA 0 ∧ gM Gr17 a23 = true ∧ vp_in p1 (gL Gr17 a23) ∧ cI Γ l h mX2_lengthOf [.ref x, .int p4] (sI Gr17 a23 p1.toNatClampNeg p4) br17 sr17 fun r28 Gr28 br28 sr28 => gC Gr28 x = kO 1 ∧ cI Γ l h mX2_of [.ref x, .int p4, .int 2] Gr28 br28 sr28 fun r30 Gr30 br30 sr30 => gC Gr30 x = kO 1 ∧ cV Γ l h mX2_search [.ref x, .int (p1 + 1), .int (p2 + r28), .int r30] Gr30 br30 sr30 fun Gr33 br33 sr33 => gC Gr33 x = kO 1 ∧ cV Γ l h mX2_takeOut [.ref x, .int r11] Gr33 br33 sr33 fun Gr36 br36 sr36 => GW Γ l mX2_search h MC MS Q 62 [(0, va_rf (some x)), (1, .int p1), (2, .int p2), (3, .int p3), (4, .int (p4 + 1))] [] Gr36 br36 sr36))))))))))))))))))) : GW Γ l mX2_search h MC MS Q 62 [(0, va_rf (some x)), (1, .int p1), (2, .int p2), (3, .int p3), (4, .int p4)] [] G bc bs := by
  refine g_iload dX2_search_62 4 rfl ?_
  refine g_aload_n dX2_search_64 rfl 0 rfl ?_
  obtain ⟨c1, F⟩ := F
  refine h_get (v := va_rf (gR G x 0)) 1 0 (C := RX2) (T := TX2) (N := 30) rfl in_X2 (by decide) q1989 (Or.inl rfl) rfl c1 rfl dX2_search_65 ?_
  refine g_iconst (v := 0) dX2_search_68 (by decide) ?_
  obtain ⟨a2, e3, F⟩ := F
  obtain ⟨c4, F⟩ := F
  obtain ⟨k5, F⟩ := F
  refine h_iald e3 c4 k5 dX2_search_69 ?_
  refine g_icmp_ge 169 dX2_search_70 (by decide) (fun h44 => ?_) (fun h44 => ?_)
  · have F := F.1 h44
    exact g_vret rfl dX2_search_169 F
  · have F := F.2 h44
    refine g_iload_n dX2_search_73 rfl 1 rfl ?_
    refine g_bipush (v := 6) dX2_search_74 (by decide) ?_
    refine g_icmp_ge 169 dX2_search_76 (by decide) (fun h43 => ?_) (fun h43 => ?_)
    · have F := F.1 h43
      exact g_vret rfl dX2_search_169 F
    · have F := F.2 h43
      refine g_aload_n dX2_search_79 rfl 0 rfl ?_
      refine g_iload dX2_search_80 4 rfl ?_
      refine g_iconst (v := 2) dX2_search_82 (by decide) ?_
      refine h_callVI (ci := 1) (C := RX2) (T := TX2) (N := 30) (As := [.int p4, .int 2]) (rest := []) F 2 rfl rfl (lw_V q2093 q2095 qs54 q117 q2096) vm_X2_of (by decide) rfl c1 rfl (room_of sc_nil (Nat.le_of_ble_eq_true rfl)) dX2_search_83 (fun r6 Gr6 br6 sr6 F => ?_)
      refine g_iload_n dX2_search_86 rfl 3 rfl ?_
      refine g_icmp_le 163 dX2_search_87 (by decide) (fun h42 => ?_) (fun h42 => ?_)
      · have F := F.1 h42
        refine s_iinc (v := (p4 + 1)) (lv' := [(0, va_rf (some x)), (1, .int p1), (2, .int p2), (3, .int p3), (4, .int (p4 + 1))]) (cat_R (cat_I (cat_I (cat_I (cat_I cat_nil))))) dX2_search_163 (k0 := 4) rfl rfl (by decide) rfl [1, 2, 3, 4, 0] rfl ?_
        refine g_goto 62 dX2_search_166 (by decide) ?_
        exact F
      · have F := F.2 h42
        refine g_aload_n dX2_search_90 rfl 0 rfl ?_
        refine g_iload dX2_search_91 4 rfl ?_
        obtain ⟨c9, F⟩ := F
        refine h_callVI (ci := 1) (C := RX2) (T := TX2) (N := 30) (As := [.int p4]) (rest := []) F 1 rfl rfl (lw_V q2325 q2327 qs87 q117 q2328) vm_X2_isOpen (by decide) rfl c9 rfl (room_of sc_nil (Nat.le_of_ble_eq_true rfl)) dX2_search_93 (fun r8 Gr8 br8 sr8 F => ?_)
        refine g_if_eq 163 dX2_search_96 (by decide) (fun h41 => ?_) (fun h41 => ?_)
        · have F := F.1 h41
          refine s_iinc (v := (p4 + 1)) (lv' := [(0, va_rf (some x)), (1, .int p1), (2, .int p2), (3, .int p3), (4, .int (p4 + 1))]) (cat_R (cat_I (cat_I (cat_I (cat_I cat_nil))))) dX2_search_163 (k0 := 4) rfl rfl (by decide) rfl [1, 2, 3, 4, 0] rfl ?_
          refine g_goto 62 dX2_search_166 (by decide) ?_
          exact F
        · have F := F.2 h41
          refine g_aload_n dX2_search_99 rfl 0 rfl ?_
          refine g_iload dX2_search_100 4 rfl ?_
          refine g_iconst (v := 1) dX2_search_102 (by decide) ?_
          obtain ⟨c12, F⟩ := F
          refine h_callVI (ci := 1) (C := RX2) (T := TX2) (N := 30) (As := [.int p4, .int 1]) (rest := []) F 2 rfl rfl (lw_V q2180 q2182 qs67 q117 q2183) vm_X2_put (by decide) rfl c12 rfl (room_of sc_nil (Nat.le_of_ble_eq_true rfl)) dX2_search_103 (fun r11 Gr11 br11 sr11 F => ?_)
          refine s_istore (lv' := [(0, va_rf (some x)), (1, .int p1), (2, .int p2), (3, .int p3), (4, .int p4), (5, .int r11)]) (cat_R (cat_I (cat_I (cat_I (cat_I cat_nil))))) dX2_search_106 (by decide) rfl [1, 2, 3, 4, 5, 0] rfl ?_
          refine g_iload dX2_search_108 5 rfl ?_
          refine g_aload_n dX2_search_110 rfl 0 rfl ?_
          obtain ⟨c14, F⟩ := F
          refine h_get (v := .int (gI Gr11 x 8)) 1 8 (C := RX2) (T := TX2) (N := 30) rfl in_X2 (by decide) q1997 (Or.inl rfl) rfl c14 rfl dX2_search_111 ?_
          refine g_iconst (v := 1) dX2_search_114 (by decide) ?_
          refine g_isub dX2_search_115 ?_
          refine g_icmp_ne 157 dX2_search_116 (by decide) (fun h40 => ?_) (fun h40 => ?_)
          · have F := F.1 h40
            refine g_aload_n dX2_search_157 rfl 0 rfl ?_
            refine g_iload dX2_search_158 5 rfl ?_
            refine h_callVV (ci := 1) (C := RX2) (T := TX2) (N := 30) (As := [.int r11]) (rest := []) F 1 rfl rfl (lw_V q2225 q2227 qs78 q117 q2228) vm_X2_takeOut (by decide) rfl c14 rfl (room_of sc_nil (Nat.le_of_ble_eq_true rfl)) dX2_search_160 (fun Gr15 br15 sr15 F => ?_)
            refine s_iinc (v := (p4 + 1)) (lv' := [(0, va_rf (some x)), (1, .int p1), (2, .int p2), (3, .int p3), (4, .int (p4 + 1)), (5, .int r11)]) (cat_R (cat_I (cat_I (cat_I (cat_I (cat_I cat_nil)))))) dX2_search_163 (k0 := 4) rfl rfl (by decide) rfl [1, 2, 3, 4, 0, 5] rfl ?_
            refine g_goto 62 dX2_search_166 (by decide) ?_
            refine GW.lsub (lv' := [(0, va_rf (some x)), (1, .int p1), (2, .int p2), (3, .int p3), (4, .int (p4 + 1))]) [0, 1, 2, 3, 4] rfl ?_
            exact F
          · have F := F.2 h40
            refine g_aload_n dX2_search_119 rfl 0 rfl ?_
            refine g_iconst (v := 0) dX2_search_120 (by decide) ?_
            refine h_callVI (ci := 1) (C := RX2) (T := TX2) (N := 30) (As := [.int 0]) (rest := []) F 1 rfl rfl (lw_V q2184 q2186 qs68 q117 q2187) vm_X2_violationAt (by decide) rfl c14 rfl (room_of sc_nil (Nat.le_of_ble_eq_true rfl)) dX2_search_121 (fun r17 Gr17 br17 sr17 F => ?_)
            refine g_if_ne 157 dX2_search_124 (by decide) (fun h39 => ?_) (fun h39 => ?_)
            · have F := F.1 h39
              refine g_aload_n dX2_search_157 rfl 0 rfl ?_
              refine g_iload dX2_search_158 5 rfl ?_
              obtain ⟨c20, F⟩ := F
              refine h_callVV (ci := 1) (C := RX2) (T := TX2) (N := 30) (As := [.int r11]) (rest := []) F 1 rfl rfl (lw_V q2225 q2227 qs78 q117 q2228) vm_X2_takeOut (by decide) rfl c20 rfl (room_of sc_nil (Nat.le_of_ble_eq_true rfl)) dX2_search_160 (fun Gr19 br19 sr19 F => ?_)
              refine s_iinc (v := (p4 + 1)) (lv' := [(0, va_rf (some x)), (1, .int p1), (2, .int p2), (3, .int p3), (4, .int (p4 + 1)), (5, .int r11)]) (cat_R (cat_I (cat_I (cat_I (cat_I (cat_I cat_nil)))))) dX2_search_163 (k0 := 4) rfl rfl (by decide) rfl [1, 2, 3, 4, 0, 5] rfl ?_
              refine g_goto 62 dX2_search_166 (by decide) ?_
              refine GW.lsub (lv' := [(0, va_rf (some x)), (1, .int p1), (2, .int p2), (3, .int p3), (4, .int (p4 + 1))]) [0, 1, 2, 3, 4] rfl ?_
              exact F
            · have F := F.2 h39
              refine g_aload_n dX2_search_127 rfl 0 rfl ?_
              obtain ⟨c22, F⟩ := F
              refine h_get (v := va_rf (gR Gr17 x 19)) 1 19 (C := RX2) (T := TX2) (N := 30) rfl in_X2 (by decide) q2008 (Or.inl rfl) rfl c22 rfl dX2_search_128 ?_
              refine g_iload_n dX2_search_131 rfl 1 rfl ?_
              refine g_iload dX2_search_132 4 rfl ?_
              obtain ⟨a23, e24, F⟩ := F
              obtain ⟨c25, F⟩ := F
              obtain ⟨m26, F⟩ := F
              obtain ⟨k27, F⟩ := F
              refine h_iast e24 c25 m26 k27 dX2_search_134 ?_
              refine g_aload_n dX2_search_135 rfl 0 rfl ?_
              refine g_iload_n dX2_search_136 rfl 1 rfl ?_
              refine g_iconst (v := 1) dX2_search_137 (by decide) ?_
              refine g_iadd dX2_search_138 ?_
              refine g_iload_n dX2_search_139 rfl 2 rfl ?_
              refine g_aload_n dX2_search_140 rfl 0 rfl ?_
              refine g_iload dX2_search_141 4 rfl ?_
              refine h_callVI (ci := 1) (C := RX2) (T := TX2) (N := 30) (As := [.int p4]) (rest := [.int p2, .int (p1 + 1), va_rf (some x)]) F 1 rfl rfl (lw_V q2216 q2218 qs76 q117 q2219) vm_X2_lengthOf (by decide) rfl c22 rfl (room_of (sc_I (sc_I (sc_R sc_nil))) (Nat.le_of_ble_eq_true rfl)) dX2_search_143 (fun r28 Gr28 br28 sr28 F => ?_)
              refine g_iadd dX2_search_146 ?_
              refine g_aload_n dX2_search_147 rfl 0 rfl ?_
              refine g_iload dX2_search_148 4 rfl ?_
              refine g_iconst (v := 2) dX2_search_150 (by decide) ?_
              obtain ⟨c31, F⟩ := F
              refine h_callVI (ci := 1) (C := RX2) (T := TX2) (N := 30) (As := [.int p4, .int 2]) (rest := [.int (p2 + r28), .int (p1 + 1), va_rf (some x)]) F 2 rfl rfl (lw_V q2093 q2095 qs54 q117 q2096) vm_X2_of (by decide) rfl c31 rfl (room_of (sc_I (sc_I (sc_R sc_nil))) (Nat.le_of_ble_eq_true rfl)) dX2_search_151 (fun r30 Gr30 br30 sr30 F => ?_)
              obtain ⟨c34, F⟩ := F
              refine h_callVV (ci := 1) (C := RX2) (T := TX2) (N := 30) (As := [.int (p1 + 1), .int (p2 + r28), .int r30]) (rest := []) F 3 rfl rfl (lw_V q2405 q2407 qs96 q117 q2408) vm_X2_search (by decide) rfl c34 rfl (room_of sc_nil (Nat.le_of_ble_eq_true rfl)) dX2_search_154 (fun Gr33 br33 sr33 F => ?_)
              refine g_aload_n dX2_search_157 rfl 0 rfl ?_
              refine g_iload dX2_search_158 5 rfl ?_
              obtain ⟨c37, F⟩ := F
              refine h_callVV (ci := 1) (C := RX2) (T := TX2) (N := 30) (As := [.int r11]) (rest := []) F 1 rfl rfl (lw_V q2225 q2227 qs78 q117 q2228) vm_X2_takeOut (by decide) rfl c37 rfl (room_of sc_nil (Nat.le_of_ble_eq_true rfl)) dX2_search_160 (fun Gr36 br36 sr36 F => ?_)
              refine s_iinc (v := (p4 + 1)) (lv' := [(0, va_rf (some x)), (1, .int p1), (2, .int p2), (3, .int p3), (4, .int (p4 + 1)), (5, .int r11)]) (cat_R (cat_I (cat_I (cat_I (cat_I (cat_I cat_nil)))))) dX2_search_163 (k0 := 4) rfl rfl (by decide) rfl [1, 2, 3, 4, 0, 5] rfl ?_
              refine g_goto 62 dX2_search_166 (by decide) ?_
              refine GW.lsub (lv' := [(0, va_rf (some x)), (1, .int p1), (2, .int p2), (3, .int p3), (4, .int (p4 + 1))]) [0, 1, 2, 3, 4] rfl ?_
              exact F
theorem rX2_bestLeg_0 {Γ : GE} {l : Launch} {h MC MS : Nat} {Q : Option Value → GH → Prop} {bc bs : Nat} {G : GH} (x : Nat) (p1 : Int32) (p2 : Int32) (F : (gC G x = kO 1 ∧ cI Γ l h mX2_isCrew [.ref x, .int p1] G bc bs fun r1 Gr1 br1 sr1 => ((¬ r1 = 0 → (gC Gr1 x = kO 1 ∧ cV Γ l h mX2_findBest [.ref x, .int p1] Gr1 br1 sr1 fun Gr4 br4 sr4 => gC Gr4 x = kO 1 ∧ ((¬ (gI Gr4 x 21) = 0 → ((¬ p2 = (-1) → (cI Γ l h mX2_in [.int p2, .int 0, .int ((gI Gr4 x 21) - 1)] Gr4 br4 sr4 fun r8 Gr8 br8 sr8 => ((r8 = 0 → (Q (some (.int (-2))) Gr8)) ∧ (¬ r8 = 0 → (gC Gr8 x = kO 1 ∧ ∃ a11, (gR Gr8 x 20) = some a11 ∧ gC Gr8 a11 = kA 0 ∧ vp_in p2 (gL Gr8 a11) ∧ Q (some (.int (gI Gr8 a11 p2.toNatClampNeg))) Gr8))))) ∧ (p2 = (-1) → (Q (some (.int (gI Gr4 x 21))) Gr4)))) ∧ ((gI Gr4 x 21) = 0 → (Q (some (.int (-2))) Gr4))))) ∧ (r1 = 0 → (Q (some (.int (-1))) Gr1))))) : GW Γ l mX2_bestLeg h MC MS Q 0 [(0, va_rf (some x)), (1, .int p1), (2, .int p2)] [] G bc bs := by
  refine g_aload_n dX2_bestLeg_0 rfl 0 rfl ?_
  refine g_iload_n dX2_bestLeg_1 rfl 1 rfl ?_
  obtain ⟨c2, F⟩ := F
  refine h_callVI (ci := 1) (C := RX2) (T := TX2) (N := 30) (As := [.int p1]) (rest := []) F 1 rfl rfl (lw_V q2160 q2162 qs62 q117 q2163) vm_X2_isCrew (by decide) rfl c2 rfl (room_of sc_nil (Nat.le_of_ble_eq_true rfl)) dX2_bestLeg_2 (fun r1 Gr1 br1 sr1 F => ?_)
  refine g_if_ne 10 dX2_bestLeg_5 (by decide) (fun h18 => ?_) (fun h18 => ?_)
  · have F := F.1 h18
    refine g_aload_n dX2_bestLeg_10 rfl 0 rfl ?_
    refine g_iload_n dX2_bestLeg_11 rfl 1 rfl ?_
    obtain ⟨c5, F⟩ := F
    refine h_callVV (ci := 1) (C := RX2) (T := TX2) (N := 30) (As := [.int p1]) (rest := []) F 1 rfl rfl (lw_V q2401 q2403 qs95 q117 q2404) vm_X2_findBest (by decide) rfl c5 rfl (room_of sc_nil (Nat.le_of_ble_eq_true rfl)) dX2_bestLeg_12 (fun Gr4 br4 sr4 F => ?_)
    refine g_aload_n dX2_bestLeg_15 rfl 0 rfl ?_
    obtain ⟨c7, F⟩ := F
    refine h_get (v := .int (gI Gr4 x 21)) 1 21 (C := RX2) (T := TX2) (N := 30) rfl in_X2 (by decide) q2010 (Or.inl rfl) rfl c7 rfl dX2_bestLeg_16 ?_
    refine g_if_ne 27 dX2_bestLeg_19 (by decide) (fun h17 => ?_) (fun h17 => ?_)
    · have F := F.1 h17
      refine g_iload_n dX2_bestLeg_27 rfl 2 rfl ?_
      refine g_iconst (v := (-1)) dX2_bestLeg_28 (by decide) ?_
      refine g_icmp_ne 39 dX2_bestLeg_29 (by decide) (fun h16 => ?_) (fun h16 => ?_)
      · have F := F.1 h16
        refine g_iload_n dX2_bestLeg_39 rfl 2 rfl ?_
        refine g_iconst (v := 0) dX2_bestLeg_40 (by decide) ?_
        refine g_aload_n dX2_bestLeg_41 rfl 0 rfl ?_
        refine h_get (v := .int (gI Gr4 x 21)) 1 21 (C := RX2) (T := TX2) (N := 30) rfl in_X2 (by decide) q2010 (Or.inl rfl) rfl c7 rfl dX2_bestLeg_42 ?_
        refine g_iconst (v := 1) dX2_bestLeg_45 (by decide) ?_
        refine g_isub dX2_bestLeg_46 ?_
        refine h_callSI (As := [.int p2, .int 0, .int ((gI Gr4 x 21) - 1)]) (rest := []) F 3 rfl (lw_S q2085 q2086 q117 q2087) vm_X2_in.2 (by decide) rfl (room_of sc_nil (Nat.le_of_ble_eq_true rfl)) dX2_bestLeg_47 (fun r8 Gr8 br8 sr8 F => ?_)
        refine g_if_eq 62 dX2_bestLeg_50 (by decide) (fun h15 => ?_) (fun h15 => ?_)
        · have F := F.1 h15
          refine g_bipush (v := (-2)) dX2_bestLeg_62 (by decide) ?_
          exact g_iret rfl dX2_bestLeg_64 F
        · have F := F.2 h15
          refine g_aload_n dX2_bestLeg_53 rfl 0 rfl ?_
          obtain ⟨c10, F⟩ := F
          refine h_get (v := va_rf (gR Gr8 x 20)) 1 20 (C := RX2) (T := TX2) (N := 30) rfl in_X2 (by decide) q2009 (Or.inl rfl) rfl c10 rfl dX2_bestLeg_54 ?_
          refine g_iload_n dX2_bestLeg_57 rfl 2 rfl ?_
          obtain ⟨a11, e12, F⟩ := F
          obtain ⟨c13, F⟩ := F
          obtain ⟨k14, F⟩ := F
          refine h_iald e12 c13 k14 dX2_bestLeg_58 ?_
          refine g_goto 64 dX2_bestLeg_59 (by decide) ?_
          exact g_iret rfl dX2_bestLeg_64 F
      · have F := F.2 h16
        refine g_aload_n dX2_bestLeg_32 rfl 0 rfl ?_
        refine h_get (v := .int (gI Gr4 x 21)) 1 21 (C := RX2) (T := TX2) (N := 30) rfl in_X2 (by decide) q2010 (Or.inl rfl) rfl c7 rfl dX2_bestLeg_33 ?_
        refine g_goto 64 dX2_bestLeg_36 (by decide) ?_
        exact g_iret rfl dX2_bestLeg_64 F
    · have F := F.2 h17
      refine g_bipush (v := (-2)) dX2_bestLeg_22 (by decide) ?_
      refine g_goto 64 dX2_bestLeg_24 (by decide) ?_
      exact g_iret rfl dX2_bestLeg_64 F
  · have F := F.2 h18
    refine g_iconst (v := (-1)) dX2_bestLeg_8 (by decide) ?_
    exact g_iret rfl dX2_bestLeg_9 F
theorem rX2_takeBest_0 {Γ : GE} {l : Launch} {h MC MS : Nat} {Q : Option Value → GH → Prop} {bc bs : Nat} {G : GH} (x : Nat) (p1 : Int32) (F : (gC G x = kO 1 ∧ cI Γ l h mX2_isCrew [.ref x, .int p1] G bc bs fun r1 Gr1 br1 sr1 => ((¬ r1 = 0 → (gC Gr1 x = kO 1 ∧ cV Γ l h mX2_findBest [.ref x, .int p1] Gr1 br1 sr1 fun Gr4 br4 sr4 => gC Gr4 x = kO 1 ∧ ((¬ (gI Gr4 x 21) = 0 → (cV Γ l h mX2_change [.ref x] Gr4 br4 sr4 fun Gr8 br8 sr8 => GW Γ l mX2_takeBest h MC MS Q 31 [(0, va_rf (some x)), (1, .int p1), (2, .int 0)] [] Gr8 br8 sr8)) ∧ ((gI Gr4 x 21) = 0 → (Q (some (.int (-2))) Gr4))))) ∧ (r1 = 0 → (Q (some (.int (-1))) Gr1))))) : GW Γ l mX2_takeBest h MC MS Q 0 [(0, va_rf (some x)), (1, .int p1)] [] G bc bs := by
  refine g_aload_n dX2_takeBest_0 rfl 0 rfl ?_
  refine g_iload_n dX2_takeBest_1 rfl 1 rfl ?_
  obtain ⟨c2, F⟩ := F
  refine h_callVI (ci := 1) (C := RX2) (T := TX2) (N := 30) (As := [.int p1]) (rest := []) F 1 rfl rfl (lw_V q2160 q2162 qs62 q117 q2163) vm_X2_isCrew (by decide) rfl c2 rfl (room_of sc_nil (Nat.le_of_ble_eq_true rfl)) dX2_takeBest_2 (fun r1 Gr1 br1 sr1 F => ?_)
  refine g_if_ne 10 dX2_takeBest_5 (by decide) (fun h11 => ?_) (fun h11 => ?_)
  · have F := F.1 h11
    refine g_aload_n dX2_takeBest_10 rfl 0 rfl ?_
    refine g_iload_n dX2_takeBest_11 rfl 1 rfl ?_
    obtain ⟨c5, F⟩ := F
    refine h_callVV (ci := 1) (C := RX2) (T := TX2) (N := 30) (As := [.int p1]) (rest := []) F 1 rfl rfl (lw_V q2401 q2403 qs95 q117 q2404) vm_X2_findBest (by decide) rfl c5 rfl (room_of sc_nil (Nat.le_of_ble_eq_true rfl)) dX2_takeBest_12 (fun Gr4 br4 sr4 F => ?_)
    refine g_aload_n dX2_takeBest_15 rfl 0 rfl ?_
    obtain ⟨c7, F⟩ := F
    refine h_get (v := .int (gI Gr4 x 21)) 1 21 (C := RX2) (T := TX2) (N := 30) rfl in_X2 (by decide) q2010 (Or.inl rfl) rfl c7 rfl dX2_takeBest_16 ?_
    refine g_if_ne 25 dX2_takeBest_19 (by decide) (fun h10 => ?_) (fun h10 => ?_)
    · have F := F.1 h10
      refine g_aload_n dX2_takeBest_25 rfl 0 rfl ?_
      refine h_callVV (ci := 1) (C := RX2) (T := TX2) (N := 30) (As := []) (rest := []) F 0 rfl rfl (lw_V q2097 q2099 qs55 q117 q2100) vm_X2_change (by decide) rfl c7 rfl (room_of sc_nil (Nat.le_of_ble_eq_true rfl)) dX2_takeBest_26 (fun Gr8 br8 sr8 F => ?_)
      refine g_iconst (v := 0) dX2_takeBest_29 (by decide) ?_
      refine s_istore_n (lv' := [(0, va_rf (some x)), (1, .int p1), (2, .int 0)]) (cat_R (cat_I cat_nil)) dX2_takeBest_30 rfl (by decide) rfl [1, 2, 0] rfl ?_
      exact F
    · have F := F.2 h10
      refine g_bipush (v := (-2)) dX2_takeBest_22 (by decide) ?_
      exact g_iret rfl dX2_takeBest_24 F
  · have F := F.2 h11
    refine g_iconst (v := (-1)) dX2_takeBest_8 (by decide) ?_
    exact g_iret rfl dX2_takeBest_9 F
theorem rX2_takeBest_31 {Γ : GE} {l : Launch} {h MC MS : Nat} {Q : Option Value → GH → Prop} {bc bs : Nat} {G : GH} (x : Nat) (p1 : Int32) (p2 : Int32) (F : (gC G x = kO 1 ∧ (((gI G x 21) ≤ p2 → (Q (some (.int (gI G x 21))) G)) ∧ (¬ (gI G x 21) ≤ p2 → (∃ a2, (gR G x 20) = some a2 ∧ gC G a2 = kA 0 ∧ vp_in p2 (gL G a2) ∧ cI Γ l h mX2_enter [.ref x, .int p1, .int (gI G a2 p2.toNatClampNeg), .int 1] G bc bs fun r6 Gr6 br6 sr6 => GW Γ l mX2_takeBest h MC MS Q 31 [(0, va_rf (some x)), (1, .int p1), (2, .int (p2 + 1))] [] Gr6 br6 sr6))))) : GW Γ l mX2_takeBest h MC MS Q 31 [(0, va_rf (some x)), (1, .int p1), (2, .int p2)] [] G bc bs := by
  refine g_iload_n dX2_takeBest_31 rfl 2 rfl ?_
  refine g_aload_n dX2_takeBest_32 rfl 0 rfl ?_
  obtain ⟨c1, F⟩ := F
  refine h_get (v := .int (gI G x 21)) 1 21 (C := RX2) (T := TX2) (N := 30) rfl in_X2 (by decide) q2010 (Or.inl rfl) rfl c1 rfl dX2_takeBest_33 ?_
  refine g_icmp_ge 58 dX2_takeBest_36 (by decide) (fun h8 => ?_) (fun h8 => ?_)
  · have F := F.1 h8
    refine g_aload_n dX2_takeBest_58 rfl 0 rfl ?_
    refine h_get (v := .int (gI G x 21)) 1 21 (C := RX2) (T := TX2) (N := 30) rfl in_X2 (by decide) q2010 (Or.inl rfl) rfl c1 rfl dX2_takeBest_59 ?_
    exact g_iret rfl dX2_takeBest_62 F
  · have F := F.2 h8
    refine g_aload_n dX2_takeBest_39 rfl 0 rfl ?_
    refine g_iload_n dX2_takeBest_40 rfl 1 rfl ?_
    refine g_aload_n dX2_takeBest_41 rfl 0 rfl ?_
    refine h_get (v := va_rf (gR G x 20)) 1 20 (C := RX2) (T := TX2) (N := 30) rfl in_X2 (by decide) q2009 (Or.inl rfl) rfl c1 rfl dX2_takeBest_42 ?_
    refine g_iload_n dX2_takeBest_45 rfl 2 rfl ?_
    obtain ⟨a2, e3, F⟩ := F
    obtain ⟨c4, F⟩ := F
    obtain ⟨k5, F⟩ := F
    refine h_iald e3 c4 k5 dX2_takeBest_46 ?_
    refine g_iconst (v := 1) dX2_takeBest_47 (by decide) ?_
    refine h_callVI (ci := 1) (C := RX2) (T := TX2) (N := 30) (As := [.int p1, .int (gI G a2 p2.toNatClampNeg), .int 1]) (rest := []) F 3 rfl rfl (lw_V q2229 q2231 qs79 q117 q2232) vm_X2_enter (by decide) rfl c1 rfl (room_of sc_nil (Nat.le_of_ble_eq_true rfl)) dX2_takeBest_48 (fun r6 Gr6 br6 sr6 F => ?_)
    refine s_istore_n (lv' := [(0, va_rf (some x)), (1, .int p1), (2, .int p2), (3, .int r6)]) (cat_R (cat_I (cat_I cat_nil))) dX2_takeBest_51 rfl (by decide) rfl [1, 2, 3, 0] rfl ?_
    refine s_iinc (v := (p2 + 1)) (lv' := [(0, va_rf (some x)), (1, .int p1), (2, .int (p2 + 1)), (3, .int r6)]) (cat_R (cat_I (cat_I (cat_I cat_nil)))) dX2_takeBest_52 (k0 := 2) rfl rfl (by decide) rfl [1, 2, 0, 3] rfl ?_
    refine g_goto 31 dX2_takeBest_55 (by decide) ?_
    refine GW.lsub (lv' := [(0, va_rf (some x)), (1, .int p1), (2, .int (p2 + 1))]) [0, 1, 2] rfl ?_
    exact F
theorem rX2_letter_0 {Γ : GE} {l : Launch} {h MC MS : Nat} {Q : Option Value → GH → Prop} {bc bs : Nat} {G : GH} (x : Nat) (p1 : Int32) (p2 : Int32) (F : (gC G x = kO 1 ∧ cI Γ l h mX2_isCrew [.ref x, .int p1] G bc bs fun r1 Gr1 br1 sr1 => ((¬ r1 = 0 → (gC Gr1 x = kO 1 ∧ cV Γ l h mX2_take [.ref x, .int p1] Gr1 br1 sr1 fun Gr4 br4 sr4 => gC Gr4 x = kO 1 ∧ gM Gr4 x = true ∧ GW Γ l mX2_letter h MC MS Q 22 [(0, va_rf (some x)), (1, .int p1), (2, .int p2), (3, .int 0)] [] (sI Gr4 x 24 0) br4 sr4)) ∧ (r1 = 0 → (Q (some (.int (-1))) Gr1))))) : GW Γ l mX2_letter h MC MS Q 0 [(0, va_rf (some x)), (1, .int p1), (2, .int p2)] [] G bc bs := by
  refine g_aload_n dX2_letter_0 rfl 0 rfl ?_
  refine g_iload_n dX2_letter_1 rfl 1 rfl ?_
  obtain ⟨c2, F⟩ := F
  refine h_callVI (ci := 1) (C := RX2) (T := TX2) (N := 30) (As := [.int p1]) (rest := []) F 1 rfl rfl (lw_V q2160 q2162 qs62 q117 q2163) vm_X2_isCrew (by decide) rfl c2 rfl (room_of sc_nil (Nat.le_of_ble_eq_true rfl)) dX2_letter_2 (fun r1 Gr1 br1 sr1 F => ?_)
  refine g_if_ne 10 dX2_letter_5 (by decide) (fun h9 => ?_) (fun h9 => ?_)
  · have F := F.1 h9
    refine g_aload_n dX2_letter_10 rfl 0 rfl ?_
    refine g_iload_n dX2_letter_11 rfl 1 rfl ?_
    obtain ⟨c5, F⟩ := F
    refine h_callVV (ci := 1) (C := RX2) (T := TX2) (N := 30) (As := [.int p1]) (rest := []) F 1 rfl rfl (lw_V q2168 q2170 qs64 q117 q2171) vm_X2_take (by decide) rfl c5 rfl (room_of sc_nil (Nat.le_of_ble_eq_true rfl)) dX2_letter_12 (fun Gr4 br4 sr4 F => ?_)
    refine g_aload_n dX2_letter_15 rfl 0 rfl ?_
    refine g_iconst (v := 0) dX2_letter_16 (by decide) ?_
    obtain ⟨c7, F⟩ := F
    obtain ⟨m8, F⟩ := F
    refine h_putI (mi := mX2_letter) 1 24 (C := RX2) (T := TX2) (N := 30) rfl in_X2 tyX2_ok nmX2 (by decide) q2013 (Or.inl rfl) (Or.inl rfl) rfl rfl c7 m8 rfl rfl dX2_letter_17 ?_
    refine g_iconst (v := 0) dX2_letter_20 (by decide) ?_
    refine s_istore_n (lv' := [(0, va_rf (some x)), (1, .int p1), (2, .int p2), (3, .int 0)]) (cat_R (cat_I (cat_I cat_nil))) dX2_letter_21 rfl (by decide) rfl [1, 2, 3, 0] rfl ?_
    exact F
  · have F := F.2 h9
    refine g_iconst (v := (-1)) dX2_letter_8 (by decide) ?_
    exact g_iret rfl dX2_letter_9 F
theorem rX2_letter_22 {Γ : GE} {l : Launch} {h MC MS : Nat} {Q : Option Value → GH → Prop} {bc bs : Nat} {G : GH} (x : Nat) (p1 : Int32) (p2 : Int32) (p3 : Int32) (F : (gC G x = kO 1 ∧ (((gI G x 8) ≤ p3 → ((¬ p2 = (-1) → (cI Γ l h mX2_in [.int p2, .int 0, .int ((gI G x 24) - 1)] G bc bs fun r2 Gr2 br2 sr2 => ((r2 = 0 → (Q (some (.int (-2))) Gr2)) ∧ (¬ r2 = 0 → (gC Gr2 x = kO 1 ∧ ∃ a5, (gR Gr2 x 23) = some a5 ∧ gC Gr2 a5 = kA 3 ∧ vp_in p2 (gL Gr2 a5) ∧ Q (some (.int (gI Gr2 a5 p2.toNatClampNeg))) Gr2))))) ∧ (p2 = (-1) → (Q (some (.int (gI G x 24))) G)))) ∧ (¬ (gI G x 8) ≤ p3 → (cV Γ l h mX2_writeItem [.ref x, .int p3] G bc bs fun Gr11 br11 sr11 => GW Γ l mX2_letter h MC MS Q 22 [(0, va_rf (some x)), (1, .int p1), (2, .int p2), (3, .int (p3 + 1))] [] Gr11 br11 sr11))))) : GW Γ l mX2_letter h MC MS Q 22 [(0, va_rf (some x)), (1, .int p1), (2, .int p2), (3, .int p3)] [] G bc bs := by
  refine g_iload_n dX2_letter_22 rfl 3 rfl ?_
  refine g_aload_n dX2_letter_23 rfl 0 rfl ?_
  obtain ⟨c1, F⟩ := F
  refine h_get (v := .int (gI G x 8)) 1 8 (C := RX2) (T := TX2) (N := 30) rfl in_X2 (by decide) q1997 (Or.inl rfl) rfl c1 rfl dX2_letter_24 ?_
  refine g_icmp_ge 41 dX2_letter_27 (by decide) (fun h13 => ?_) (fun h13 => ?_)
  · have F := F.1 h13
    refine g_iload_n dX2_letter_41 rfl 2 rfl ?_
    refine g_iconst (v := (-1)) dX2_letter_42 (by decide) ?_
    refine g_icmp_ne 53 dX2_letter_43 (by decide) (fun h10 => ?_) (fun h10 => ?_)
    · have F := F.1 h10
      refine g_iload_n dX2_letter_53 rfl 2 rfl ?_
      refine g_iconst (v := 0) dX2_letter_54 (by decide) ?_
      refine g_aload_n dX2_letter_55 rfl 0 rfl ?_
      refine h_get (v := .int (gI G x 24)) 1 24 (C := RX2) (T := TX2) (N := 30) rfl in_X2 (by decide) q2013 (Or.inl rfl) rfl c1 rfl dX2_letter_56 ?_
      refine g_iconst (v := 1) dX2_letter_59 (by decide) ?_
      refine g_isub dX2_letter_60 ?_
      refine h_callSI (As := [.int p2, .int 0, .int ((gI G x 24) - 1)]) (rest := []) F 3 rfl (lw_S q2085 q2086 q117 q2087) vm_X2_in.2 (by decide) rfl (room_of sc_nil (Nat.le_of_ble_eq_true rfl)) dX2_letter_61 (fun r2 Gr2 br2 sr2 F => ?_)
      refine g_if_eq 76 dX2_letter_64 (by decide) (fun h9 => ?_) (fun h9 => ?_)
      · have F := F.1 h9
        refine g_bipush (v := (-2)) dX2_letter_76 (by decide) ?_
        exact g_iret rfl dX2_letter_78 F
      · have F := F.2 h9
        refine g_aload_n dX2_letter_67 rfl 0 rfl ?_
        obtain ⟨c4, F⟩ := F
        refine h_get (v := va_rf (gR Gr2 x 23)) 1 23 (C := RX2) (T := TX2) (N := 30) rfl in_X2 (by decide) q2012 (Or.inl rfl) rfl c4 rfl dX2_letter_68 ?_
        refine g_iload_n dX2_letter_71 rfl 2 rfl ?_
        obtain ⟨a5, e6, F⟩ := F
        obtain ⟨c7, F⟩ := F
        obtain ⟨k8, F⟩ := F
        refine h_cald e6 c7 k8 dX2_letter_72 ?_
        refine g_goto 78 dX2_letter_73 (by decide) ?_
        exact g_iret rfl dX2_letter_78 F
    · have F := F.2 h10
      refine g_aload_n dX2_letter_46 rfl 0 rfl ?_
      refine h_get (v := .int (gI G x 24)) 1 24 (C := RX2) (T := TX2) (N := 30) rfl in_X2 (by decide) q2013 (Or.inl rfl) rfl c1 rfl dX2_letter_47 ?_
      refine g_goto 78 dX2_letter_50 (by decide) ?_
      exact g_iret rfl dX2_letter_78 F
  · have F := F.2 h13
    refine g_aload_n dX2_letter_30 rfl 0 rfl ?_
    refine g_iload_n dX2_letter_31 rfl 3 rfl ?_
    refine h_callVV (ci := 1) (C := RX2) (T := TX2) (N := 30) (As := [.int p3]) (rest := []) F 1 rfl rfl (lw_V q2421 q2423 qs97 q117 q2424) vm_X2_writeItem (by decide) rfl c1 rfl (room_of sc_nil (Nat.le_of_ble_eq_true rfl)) dX2_letter_32 (fun Gr11 br11 sr11 F => ?_)
    refine s_iinc (v := (p3 + 1)) (lv' := [(0, va_rf (some x)), (1, .int p1), (2, .int p2), (3, .int (p3 + 1))]) (cat_R (cat_I (cat_I (cat_I cat_nil)))) dX2_letter_35 (k0 := 3) rfl rfl (by decide) rfl [1, 2, 3, 0] rfl ?_
    refine g_goto 22 dX2_letter_38 (by decide) ?_
    exact F
theorem rX2_writeItem_0 {Γ : GE} {l : Launch} {h MC MS : Nat} {Q : Option Value → GH → Prop} {bc bs : Nat} {G : GH} (x : Nat) (p1 : Int32) (F : (gC G x = kO 1 ∧ cI Γ l h mX2_legAt [.ref x, .int p1] G bc bs fun r1 Gr1 br1 sr1 => gC Gr1 x = kO 1 ∧ cI Γ l h mX2_of [.ref x, .int r1, .int 0] Gr1 br1 sr1 fun r4 Gr4 br4 sr4 => gC Gr4 x = kO 1 ∧ cV Γ l h mX2_write [.ref x, .int (48 + r4)] Gr4 br4 sr4 fun Gr7 br7 sr7 => gC Gr7 x = kO 1 ∧ cV Γ l h mX2_write [.ref x, .int 62] Gr7 br7 sr7 fun Gr10 br10 sr10 => gC Gr10 x = kO 1 ∧ cI Γ l h mX2_of [.ref x, .int r1, .int 1] Gr10 br10 sr10 fun r13 Gr13 br13 sr13 => gC Gr13 x = kO 1 ∧ cV Γ l h mX2_write [.ref x, .int (48 + r13)] Gr13 br13 sr13 fun Gr16 br16 sr16 => gC Gr16 x = kO 1 ∧ cV Γ l h mX2_write [.ref x, .int 32] Gr16 br16 sr16 fun Gr19 br19 sr19 => gC Gr19 x = kO 1 ∧ cI Γ l h mX2_of [.ref x, .int r1, .int 2] Gr19 br19 sr19 fun r22 Gr22 br22 sr22 => gC Gr22 x = kO 1 ∧ cV Γ l h mX2_writeTime [.ref x, .int r22] Gr22 br22 sr22 fun Gr25 br25 sr25 => gC Gr25 x = kO 1 ∧ cV Γ l h mX2_write [.ref x, .int 45] Gr25 br25 sr25 fun Gr28 br28 sr28 => gC Gr28 x = kO 1 ∧ cI Γ l h mX2_of [.ref x, .int r1, .int 3] Gr28 br28 sr28 fun r31 Gr31 br31 sr31 => gC Gr31 x = kO 1 ∧ cV Γ l h mX2_writeTime [.ref x, .int r31] Gr31 br31 sr31 fun Gr34 br34 sr34 => gC Gr34 x = kO 1 ∧ cI Γ l h mX2_isFlown [.ref x, .int p1] Gr34 br34 sr34 fun r37 Gr37 br37 sr37 => ((r37 = 0 → (GW Γ l mX2_writeItem h MC MS Q 91 [(0, va_rf (some x)), (1, .int p1), (2, .int r1), (3, va_rf (some (Γ.2.2.2 42))), (4, .int 0)] [] Gr37 br37 sr37)) ∧ (¬ r37 = 0 → (GW Γ l mX2_writeItem h MC MS Q 91 [(0, va_rf (some x)), (1, .int p1), (2, .int r1), (3, va_rf (some (Γ.2.2.2 41))), (4, .int 0)] [] Gr37 br37 sr37))))) : GW Γ l mX2_writeItem h MC MS Q 0 [(0, va_rf (some x)), (1, .int p1)] [] G bc bs := by
  refine g_aload_n dX2_writeItem_0 rfl 0 rfl ?_
  refine g_iload_n dX2_writeItem_1 rfl 1 rfl ?_
  obtain ⟨c2, F⟩ := F
  refine h_callVI (ci := 1) (C := RX2) (T := TX2) (N := 30) (As := [.int p1]) (rest := []) F 1 rfl rfl (lw_V q2176 q2178 qs66 q117 q2179) vm_X2_legAt (by decide) rfl c2 rfl (room_of sc_nil (Nat.le_of_ble_eq_true rfl)) dX2_writeItem_2 (fun r1 Gr1 br1 sr1 F => ?_)
  refine s_istore_n (lv' := [(0, va_rf (some x)), (1, .int p1), (2, .int r1)]) (cat_R (cat_I cat_nil)) dX2_writeItem_5 rfl (by decide) rfl [1, 2, 0] rfl ?_
  refine g_aload_n dX2_writeItem_6 rfl 0 rfl ?_
  refine g_bipush (v := 48) dX2_writeItem_7 (by decide) ?_
  refine g_aload_n dX2_writeItem_9 rfl 0 rfl ?_
  refine g_iload_n dX2_writeItem_10 rfl 2 rfl ?_
  refine g_iconst (v := 0) dX2_writeItem_11 (by decide) ?_
  obtain ⟨c5, F⟩ := F
  refine h_callVI (ci := 1) (C := RX2) (T := TX2) (N := 30) (As := [.int r1, .int 0]) (rest := [.int 48, va_rf (some x)]) F 2 rfl rfl (lw_V q2093 q2095 qs54 q117 q2096) vm_X2_of (by decide) rfl c5 rfl (room_of (sc_I (sc_R sc_nil)) (Nat.le_of_ble_eq_true rfl)) dX2_writeItem_12 (fun r4 Gr4 br4 sr4 F => ?_)
  refine g_iadd dX2_writeItem_15 ?_
  obtain ⟨c8, F⟩ := F
  refine h_callVV (ci := 1) (C := RX2) (T := TX2) (N := 30) (As := [.int (48 + r4)]) (rest := []) F 1 rfl rfl (lw_V q2425 q2427 qs98 q117 q2428) vm_X2_write (by decide) rfl c8 rfl (room_of sc_nil (Nat.le_of_ble_eq_true rfl)) dX2_writeItem_16 (fun Gr7 br7 sr7 F => ?_)
  refine g_aload_n dX2_writeItem_19 rfl 0 rfl ?_
  refine g_bipush (v := 62) dX2_writeItem_20 (by decide) ?_
  obtain ⟨c11, F⟩ := F
  refine h_callVV (ci := 1) (C := RX2) (T := TX2) (N := 30) (As := [.int 62]) (rest := []) F 1 rfl rfl (lw_V q2425 q2427 qs98 q117 q2428) vm_X2_write (by decide) rfl c11 rfl (room_of sc_nil (Nat.le_of_ble_eq_true rfl)) dX2_writeItem_22 (fun Gr10 br10 sr10 F => ?_)
  refine g_aload_n dX2_writeItem_25 rfl 0 rfl ?_
  refine g_bipush (v := 48) dX2_writeItem_26 (by decide) ?_
  refine g_aload_n dX2_writeItem_28 rfl 0 rfl ?_
  refine g_iload_n dX2_writeItem_29 rfl 2 rfl ?_
  refine g_iconst (v := 1) dX2_writeItem_30 (by decide) ?_
  obtain ⟨c14, F⟩ := F
  refine h_callVI (ci := 1) (C := RX2) (T := TX2) (N := 30) (As := [.int r1, .int 1]) (rest := [.int 48, va_rf (some x)]) F 2 rfl rfl (lw_V q2093 q2095 qs54 q117 q2096) vm_X2_of (by decide) rfl c14 rfl (room_of (sc_I (sc_R sc_nil)) (Nat.le_of_ble_eq_true rfl)) dX2_writeItem_31 (fun r13 Gr13 br13 sr13 F => ?_)
  refine g_iadd dX2_writeItem_34 ?_
  obtain ⟨c17, F⟩ := F
  refine h_callVV (ci := 1) (C := RX2) (T := TX2) (N := 30) (As := [.int (48 + r13)]) (rest := []) F 1 rfl rfl (lw_V q2425 q2427 qs98 q117 q2428) vm_X2_write (by decide) rfl c17 rfl (room_of sc_nil (Nat.le_of_ble_eq_true rfl)) dX2_writeItem_35 (fun Gr16 br16 sr16 F => ?_)
  refine g_aload_n dX2_writeItem_38 rfl 0 rfl ?_
  refine g_bipush (v := 32) dX2_writeItem_39 (by decide) ?_
  obtain ⟨c20, F⟩ := F
  refine h_callVV (ci := 1) (C := RX2) (T := TX2) (N := 30) (As := [.int 32]) (rest := []) F 1 rfl rfl (lw_V q2425 q2427 qs98 q117 q2428) vm_X2_write (by decide) rfl c20 rfl (room_of sc_nil (Nat.le_of_ble_eq_true rfl)) dX2_writeItem_41 (fun Gr19 br19 sr19 F => ?_)
  refine g_aload_n dX2_writeItem_44 rfl 0 rfl ?_
  refine g_aload_n dX2_writeItem_45 rfl 0 rfl ?_
  refine g_iload_n dX2_writeItem_46 rfl 2 rfl ?_
  refine g_iconst (v := 2) dX2_writeItem_47 (by decide) ?_
  obtain ⟨c23, F⟩ := F
  refine h_callVI (ci := 1) (C := RX2) (T := TX2) (N := 30) (As := [.int r1, .int 2]) (rest := [va_rf (some x)]) F 2 rfl rfl (lw_V q2093 q2095 qs54 q117 q2096) vm_X2_of (by decide) rfl c23 rfl (room_of (sc_R sc_nil) (Nat.le_of_ble_eq_true rfl)) dX2_writeItem_48 (fun r22 Gr22 br22 sr22 F => ?_)
  obtain ⟨c26, F⟩ := F
  refine h_callVV (ci := 1) (C := RX2) (T := TX2) (N := 30) (As := [.int r22]) (rest := []) F 1 rfl rfl (lw_V q2429 q2431 qs99 q117 q2432) vm_X2_writeTime (by decide) rfl c26 rfl (room_of sc_nil (Nat.le_of_ble_eq_true rfl)) dX2_writeItem_51 (fun Gr25 br25 sr25 F => ?_)
  refine g_aload_n dX2_writeItem_54 rfl 0 rfl ?_
  refine g_bipush (v := 45) dX2_writeItem_55 (by decide) ?_
  obtain ⟨c29, F⟩ := F
  refine h_callVV (ci := 1) (C := RX2) (T := TX2) (N := 30) (As := [.int 45]) (rest := []) F 1 rfl rfl (lw_V q2425 q2427 qs98 q117 q2428) vm_X2_write (by decide) rfl c29 rfl (room_of sc_nil (Nat.le_of_ble_eq_true rfl)) dX2_writeItem_57 (fun Gr28 br28 sr28 F => ?_)
  refine g_aload_n dX2_writeItem_60 rfl 0 rfl ?_
  refine g_aload_n dX2_writeItem_61 rfl 0 rfl ?_
  refine g_iload_n dX2_writeItem_62 rfl 2 rfl ?_
  refine g_iconst (v := 3) dX2_writeItem_63 (by decide) ?_
  obtain ⟨c32, F⟩ := F
  refine h_callVI (ci := 1) (C := RX2) (T := TX2) (N := 30) (As := [.int r1, .int 3]) (rest := [va_rf (some x)]) F 2 rfl rfl (lw_V q2093 q2095 qs54 q117 q2096) vm_X2_of (by decide) rfl c32 rfl (room_of (sc_R sc_nil) (Nat.le_of_ble_eq_true rfl)) dX2_writeItem_64 (fun r31 Gr31 br31 sr31 F => ?_)
  obtain ⟨c35, F⟩ := F
  refine h_callVV (ci := 1) (C := RX2) (T := TX2) (N := 30) (As := [.int r31]) (rest := []) F 1 rfl rfl (lw_V q2429 q2431 qs99 q117 q2432) vm_X2_writeTime (by decide) rfl c35 rfl (room_of sc_nil (Nat.le_of_ble_eq_true rfl)) dX2_writeItem_67 (fun Gr34 br34 sr34 F => ?_)
  refine g_aload_n dX2_writeItem_70 rfl 0 rfl ?_
  refine g_iload_n dX2_writeItem_71 rfl 1 rfl ?_
  obtain ⟨c38, F⟩ := F
  refine h_callVI (ci := 1) (C := RX2) (T := TX2) (N := 30) (As := [.int p1]) (rest := []) F 1 rfl rfl (lw_V q2212 q2214 qs75 q117 q2215) vm_X2_isFlown (by decide) rfl c38 rfl (room_of sc_nil (Nat.le_of_ble_eq_true rfl)) dX2_writeItem_72 (fun r37 Gr37 br37 sr37 F => ?_)
  refine g_if_eq 84 dX2_writeItem_75 (by decide) (fun h40 => ?_) (fun h40 => ?_)
  · have F := F.1 h40
    refine h_ldcwS (tx := " ride;") 42 (by decide +kernel) dX2_writeItem_84 ?_
    refine s_astore_n (lv' := [(0, va_rf (some x)), (1, .int p1), (2, .int r1), (3, va_rf (some (Γ.2.2.2 42)))]) (cat_R (cat_I (cat_I cat_nil))) dX2_writeItem_87 rfl (by decide) rfl [1, 2, 3, 0] rfl ?_
    refine g_iconst (v := 0) dX2_writeItem_88 (by decide) ?_
    refine s_istore (lv' := [(0, va_rf (some x)), (1, .int p1), (2, .int r1), (3, va_rf (some (Γ.2.2.2 42))), (4, .int 0)]) (cat_R (cat_I (cat_I (cat_R cat_nil)))) dX2_writeItem_89 (by decide) rfl [1, 2, 3, 4, 0] rfl ?_
    exact F
  · have F := F.2 h40
    refine h_ldcwS (tx := " fly;") 41 (by decide +kernel) dX2_writeItem_78 ?_
    refine g_goto 87 dX2_writeItem_81 (by decide) ?_
    refine s_astore_n (lv' := [(0, va_rf (some x)), (1, .int p1), (2, .int r1), (3, va_rf (some (Γ.2.2.2 41)))]) (cat_R (cat_I (cat_I cat_nil))) dX2_writeItem_87 rfl (by decide) rfl [1, 2, 3, 0] rfl ?_
    refine g_iconst (v := 0) dX2_writeItem_88 (by decide) ?_
    refine s_istore (lv' := [(0, va_rf (some x)), (1, .int p1), (2, .int r1), (3, va_rf (some (Γ.2.2.2 41))), (4, .int 0)]) (cat_R (cat_I (cat_I (cat_R cat_nil)))) dX2_writeItem_89 (by decide) rfl [1, 2, 3, 4, 0] rfl ?_
    exact F
theorem rX2_writeItem_91 {Γ : GE} {l : Launch} {h MC MS : Nat} {Q : Option Value → GH → Prop} {bc bs : Nat} {G : GH} (x : Nat) (p1 : Int32) (p2 : Int32) (p3 : Option Nat) (p4 : Int32) (F : (∃ a2, p3 = some a2 ∧ gC G a2 = kO 15 ∧ cI Γ l h mJ5_length [.ref a2] G bc bs fun r1 Gr1 br1 sr1 => ((r1 ≤ p4 → (Q none Gr1)) ∧ (¬ r1 ≤ p4 → (gC Gr1 a2 = kO 15 ∧ cI Γ l h mJ5_charAt [.ref a2, .int p4] Gr1 br1 sr1 fun r6 Gr6 br6 sr6 => gC Gr6 x = kO 1 ∧ cV Γ l h mX2_write [.ref x, .int r6] Gr6 br6 sr6 fun Gr9 br9 sr9 => GW Γ l mX2_writeItem h MC MS Q 91 [(0, va_rf (some x)), (1, .int p1), (2, .int p2), (3, va_rf p3), (4, .int (p4 + 1))] [] Gr9 br9 sr9))))) : GW Γ l mX2_writeItem h MC MS Q 91 [(0, va_rf (some x)), (1, .int p1), (2, .int p2), (3, va_rf p3), (4, .int p4)] [] G bc bs := by
  refine g_iload dX2_writeItem_91 4 rfl ?_
  refine g_aload_n dX2_writeItem_93 rfl 3 rfl ?_
  obtain ⟨a2, e3, F⟩ := F
  obtain ⟨c4, F⟩ := F
  refine h_callVI (ci := 15) (C := RJ5) (T := TJ5) (N := 4) (As := []) (rest := [.int p4]) F 0 rfl rfl (lw_V q2439 q1588 q1589 q115 q1590) vm_J5_length (by decide) e3 c4 rfl (room_of (sc_I sc_nil) (Nat.le_of_ble_eq_true rfl)) dX2_writeItem_94 (fun r1 Gr1 br1 sr1 F => ?_)
  refine g_icmp_ge 116 dX2_writeItem_97 (by decide) (fun h12 => ?_) (fun h12 => ?_)
  · have F := F.1 h12
    exact g_vret rfl dX2_writeItem_116 F
  · have F := F.2 h12
    refine g_aload_n dX2_writeItem_100 rfl 0 rfl ?_
    refine g_aload_n dX2_writeItem_101 rfl 3 rfl ?_
    refine g_iload dX2_writeItem_102 4 rfl ?_
    obtain ⟨c7, F⟩ := F
    refine h_callVI (ci := 15) (C := RJ5) (T := TJ5) (N := 4) (As := [.int p4]) (rest := [va_rf (some x)]) F 1 rfl rfl (lw_V q2440 q1773 q1774 q115 q1775) vm_J5_charAt (by decide) e3 c7 rfl (room_of (sc_R sc_nil) (Nat.le_of_ble_eq_true rfl)) dX2_writeItem_104 (fun r6 Gr6 br6 sr6 F => ?_)
    obtain ⟨c10, F⟩ := F
    refine h_callVV (ci := 1) (C := RX2) (T := TX2) (N := 30) (As := [.int r6]) (rest := []) F 1 rfl rfl (lw_V q2425 q2427 qs98 q117 q2428) vm_X2_write (by decide) rfl c10 rfl (room_of sc_nil (Nat.le_of_ble_eq_true rfl)) dX2_writeItem_107 (fun Gr9 br9 sr9 F => ?_)
    refine s_iinc (v := (p4 + 1)) (lv' := [(0, va_rf (some x)), (1, .int p1), (2, .int p2), (3, va_rf p3), (4, .int (p4 + 1))]) (cat_R (cat_I (cat_I (cat_R (cat_I cat_nil))))) dX2_writeItem_110 (k0 := 4) rfl rfl (by decide) rfl [1, 2, 3, 4, 0] rfl ?_
    refine g_goto 91 dX2_writeItem_113 (by decide) ?_
    exact F
theorem rX2_write_0 {Γ : GE} {l : Launch} {h MC MS : Nat} {Q : Option Value → GH → Prop} {bc bs : Nat} {G : GH} (x : Nat) (p1 : Int32) (F : (gC G x = kO 1 ∧ ∃ a2, (gR G x 23) = some a2 ∧ gC G a2 = kA 3 ∧ gM G a2 = true ∧ vp_in (gI G x 24) (gL G a2) ∧ gM (sI G a2 (gI G x 24).toNatClampNeg (vp_nar .char ((p1.toUInt32 % 65536).toInt32))) x = true ∧ Q none (sI (sI G a2 (gI G x 24).toNatClampNeg (vp_nar .char ((p1.toUInt32 % 65536).toInt32))) x 24 ((gI (sI G a2 (gI G x 24).toNatClampNeg (vp_nar .char ((p1.toUInt32 % 65536).toInt32))) x 24) + 1)))) : GW Γ l mX2_write h MC MS Q 0 [(0, va_rf (some x)), (1, .int p1)] [] G bc bs := by
  refine g_aload_n dX2_write_0 rfl 0 rfl ?_
  obtain ⟨c1, F⟩ := F
  refine h_get (v := va_rf (gR G x 23)) 1 23 (C := RX2) (T := TX2) (N := 30) rfl in_X2 (by decide) q2012 (Or.inl rfl) rfl c1 rfl dX2_write_1 ?_
  refine g_aload_n dX2_write_4 rfl 0 rfl ?_
  refine h_get (v := .int (gI G x 24)) 1 24 (C := RX2) (T := TX2) (N := 30) rfl in_X2 (by decide) q2013 (Or.inl rfl) rfl c1 rfl dX2_write_5 ?_
  refine g_iload_n dX2_write_8 rfl 1 rfl ?_
  refine g_i2c dX2_write_9 ?_
  obtain ⟨a2, e3, F⟩ := F
  obtain ⟨c4, F⟩ := F
  obtain ⟨m5, F⟩ := F
  obtain ⟨k6, F⟩ := F
  refine h_cast e3 c4 m5 k6 dX2_write_10 ?_
  refine g_aload_n dX2_write_11 rfl 0 rfl ?_
  refine g_dup dX2_write_12 (va_rf_cat _) ?_
  refine h_get (v := .int (gI (sI G a2 (gI G x 24).toNatClampNeg (vp_nar .char ((p1.toUInt32 % 65536).toInt32))) x 24)) 1 24 (C := RX2) (T := TX2) (N := 30) rfl in_X2 (by decide) q2013 (Or.inl rfl) rfl c1 rfl dX2_write_13 ?_
  refine g_iconst (v := 1) dX2_write_16 (by decide) ?_
  refine g_iadd dX2_write_17 ?_
  obtain ⟨m7, F⟩ := F
  refine h_putI (mi := mX2_write) 1 24 (C := RX2) (T := TX2) (N := 30) rfl in_X2 tyX2_ok nmX2 (by decide) q2013 (Or.inl rfl) (Or.inl rfl) rfl rfl c1 m7 rfl rfl dX2_write_18 ?_
  exact g_vret rfl dX2_write_21 F
theorem rX2_writeTime_0 {Γ : GE} {l : Launch} {h MC MS : Nat} {Q : Option Value → GH → Prop} {bc bs : Nat} {G : GH} (x : Nat) (p1 : Int32) (F : (gC G x = kO 1 ∧ cV Γ l h mX2_write [.ref x, .int 100] G bc bs fun Gr1 br1 sr1 => gC Gr1 x = kO 1 ∧ cV Γ l h mX2_write [.ref x, .int (48 + (p1 / 1440))] Gr1 br1 sr1 fun Gr4 br4 sr4 => gC Gr4 x = kO 1 ∧ cV Γ l h mX2_write [.ref x, .int 104] Gr4 br4 sr4 fun Gr7 br7 sr7 => gC Gr7 x = kO 1 ∧ cV Γ l h mX2_writeTwo [.ref x, .int ((p1 - p1 / 1440 * 1440) / 60)] Gr7 br7 sr7 fun Gr10 br10 sr10 => gC Gr10 x = kO 1 ∧ cV Γ l h mX2_writeTwo [.ref x, .int (p1 - p1 / 60 * 60)] Gr10 br10 sr10 fun Gr13 br13 sr13 => Q none Gr13)) : GW Γ l mX2_writeTime h MC MS Q 0 [(0, va_rf (some x)), (1, .int p1)] [] G bc bs := by
  refine g_aload_n dX2_writeTime_0 rfl 0 rfl ?_
  refine g_bipush (v := 100) dX2_writeTime_1 (by decide) ?_
  obtain ⟨c2, F⟩ := F
  refine h_callVV (ci := 1) (C := RX2) (T := TX2) (N := 30) (As := [.int 100]) (rest := []) F 1 rfl rfl (lw_V q2425 q2427 qs98 q117 q2428) vm_X2_write (by decide) rfl c2 rfl (room_of sc_nil (Nat.le_of_ble_eq_true rfl)) dX2_writeTime_3 (fun Gr1 br1 sr1 F => ?_)
  refine g_aload_n dX2_writeTime_6 rfl 0 rfl ?_
  refine g_bipush (v := 48) dX2_writeTime_7 (by decide) ?_
  refine g_iload_n dX2_writeTime_9 rfl 1 rfl ?_
  refine g_sipush (v := 1440) dX2_writeTime_10 (by decide) ?_
  refine g_idiv dX2_writeTime_13 (by decide) ?_
  refine g_iadd dX2_writeTime_14 ?_
  obtain ⟨c5, F⟩ := F
  refine h_callVV (ci := 1) (C := RX2) (T := TX2) (N := 30) (As := [.int (48 + (p1 / 1440))]) (rest := []) F 1 rfl rfl (lw_V q2425 q2427 qs98 q117 q2428) vm_X2_write (by decide) rfl c5 rfl (room_of sc_nil (Nat.le_of_ble_eq_true rfl)) dX2_writeTime_15 (fun Gr4 br4 sr4 F => ?_)
  refine g_aload_n dX2_writeTime_18 rfl 0 rfl ?_
  refine g_bipush (v := 104) dX2_writeTime_19 (by decide) ?_
  obtain ⟨c8, F⟩ := F
  refine h_callVV (ci := 1) (C := RX2) (T := TX2) (N := 30) (As := [.int 104]) (rest := []) F 1 rfl rfl (lw_V q2425 q2427 qs98 q117 q2428) vm_X2_write (by decide) rfl c8 rfl (room_of sc_nil (Nat.le_of_ble_eq_true rfl)) dX2_writeTime_21 (fun Gr7 br7 sr7 F => ?_)
  refine g_aload_n dX2_writeTime_24 rfl 0 rfl ?_
  refine g_iload_n dX2_writeTime_25 rfl 1 rfl ?_
  refine g_sipush (v := 1440) dX2_writeTime_26 (by decide) ?_
  refine g_irem dX2_writeTime_29 (by decide) ?_
  refine g_bipush (v := 60) dX2_writeTime_30 (by decide) ?_
  refine g_idiv dX2_writeTime_32 (by decide) ?_
  obtain ⟨c11, F⟩ := F
  refine h_callVV (ci := 1) (C := RX2) (T := TX2) (N := 30) (As := [.int ((p1 - p1 / 1440 * 1440) / 60)]) (rest := []) F 1 rfl rfl (lw_V q2433 q2435 qs100 q117 q2436) vm_X2_writeTwo (by decide) rfl c11 rfl (room_of sc_nil (Nat.le_of_ble_eq_true rfl)) dX2_writeTime_33 (fun Gr10 br10 sr10 F => ?_)
  refine g_aload_n dX2_writeTime_36 rfl 0 rfl ?_
  refine g_iload_n dX2_writeTime_37 rfl 1 rfl ?_
  refine g_bipush (v := 60) dX2_writeTime_38 (by decide) ?_
  refine g_irem dX2_writeTime_40 (by decide) ?_
  obtain ⟨c14, F⟩ := F
  refine h_callVV (ci := 1) (C := RX2) (T := TX2) (N := 30) (As := [.int (p1 - p1 / 60 * 60)]) (rest := []) F 1 rfl rfl (lw_V q2433 q2435 qs100 q117 q2436) vm_X2_writeTwo (by decide) rfl c14 rfl (room_of sc_nil (Nat.le_of_ble_eq_true rfl)) dX2_writeTime_41 (fun Gr13 br13 sr13 F => ?_)
  exact g_vret rfl dX2_writeTime_44 F
theorem rX2_writeTwo_0 {Γ : GE} {l : Launch} {h MC MS : Nat} {Q : Option Value → GH → Prop} {bc bs : Nat} {G : GH} (x : Nat) (p1 : Int32) (F : (gC G x = kO 1 ∧ cV Γ l h mX2_write [.ref x, .int (48 + (p1 / 10))] G bc bs fun Gr1 br1 sr1 => gC Gr1 x = kO 1 ∧ cV Γ l h mX2_write [.ref x, .int (48 + (p1 - p1 / 10 * 10))] Gr1 br1 sr1 fun Gr4 br4 sr4 => Q none Gr4)) : GW Γ l mX2_writeTwo h MC MS Q 0 [(0, va_rf (some x)), (1, .int p1)] [] G bc bs := by
  refine g_aload_n dX2_writeTwo_0 rfl 0 rfl ?_
  refine g_bipush (v := 48) dX2_writeTwo_1 (by decide) ?_
  refine g_iload_n dX2_writeTwo_3 rfl 1 rfl ?_
  refine g_bipush (v := 10) dX2_writeTwo_4 (by decide) ?_
  refine g_idiv dX2_writeTwo_6 (by decide) ?_
  refine g_iadd dX2_writeTwo_7 ?_
  obtain ⟨c2, F⟩ := F
  refine h_callVV (ci := 1) (C := RX2) (T := TX2) (N := 30) (As := [.int (48 + (p1 / 10))]) (rest := []) F 1 rfl rfl (lw_V q2425 q2427 qs98 q117 q2428) vm_X2_write (by decide) rfl c2 rfl (room_of sc_nil (Nat.le_of_ble_eq_true rfl)) dX2_writeTwo_8 (fun Gr1 br1 sr1 F => ?_)
  refine g_aload_n dX2_writeTwo_11 rfl 0 rfl ?_
  refine g_bipush (v := 48) dX2_writeTwo_12 (by decide) ?_
  refine g_iload_n dX2_writeTwo_14 rfl 1 rfl ?_
  refine g_bipush (v := 10) dX2_writeTwo_15 (by decide) ?_
  refine g_irem dX2_writeTwo_17 (by decide) ?_
  refine g_iadd dX2_writeTwo_18 ?_
  obtain ⟨c5, F⟩ := F
  refine h_callVV (ci := 1) (C := RX2) (T := TX2) (N := 30) (As := [.int (48 + (p1 - p1 / 10 * 10))]) (rest := []) F 1 rfl rfl (lw_V q2425 q2427 qs98 q117 q2428) vm_X2_write (by decide) rfl c5 rfl (room_of sc_nil (Nat.le_of_ble_eq_true rfl)) dX2_writeTwo_19 (fun Gr4 br4 sr4 F => ?_)
  exact g_vret rfl dX2_writeTwo_22 F
theorem rX2_feed_0 {Γ : GE} {l : Launch} {h MC MS : Nat} {Q : Option Value → GH → Prop} {bc bs : Nat} {G : GH} (x : Nat) (p1 : Int32) (F : (cI Γ l h mX2_in [.int p1, .int 32, .int 126] G bc bs fun r1 Gr1 br1 sr1 => ((¬ r1 = 0 → (gC Gr1 x = kO 1 ∧ ((¬ (gI Gr1 x 26) = 60 → (∃ a4, (gR Gr1 x 25) = some a4 ∧ gC Gr1 a4 = kA 3 ∧ gM Gr1 a4 = true ∧ vp_in (gI Gr1 x 26) (gL Gr1 a4) ∧ gM (sI Gr1 a4 (gI Gr1 x 26).toNatClampNeg (vp_nar .char ((p1.toUInt32 % 65536).toInt32))) x = true ∧ Q (some (.int (gI (sI (sI Gr1 a4 (gI Gr1 x 26).toNatClampNeg (vp_nar .char ((p1.toUInt32 % 65536).toInt32))) x 26 ((gI (sI Gr1 a4 (gI Gr1 x 26).toNatClampNeg (vp_nar .char ((p1.toUInt32 % 65536).toInt32))) x 26) + 1)) x 26))) (sI (sI Gr1 a4 (gI Gr1 x 26).toNatClampNeg (vp_nar .char ((p1.toUInt32 % 65536).toInt32))) x 26 ((gI (sI Gr1 a4 (gI Gr1 x 26).toNatClampNeg (vp_nar .char ((p1.toUInt32 % 65536).toInt32))) x 26) + 1)))) ∧ ((gI Gr1 x 26) = 60 → (Q (some (.int (-3))) Gr1))))) ∧ (r1 = 0 → (Q (some (.int (-1))) Gr1))))) : GW Γ l mX2_feed h MC MS Q 0 [(0, va_rf (some x)), (1, .int p1)] [] G bc bs := by
  refine g_iload_n dX2_feed_0 rfl 1 rfl ?_
  refine g_bipush (v := 32) dX2_feed_1 (by decide) ?_
  refine g_bipush (v := 126) dX2_feed_3 (by decide) ?_
  refine h_callSI (As := [.int p1, .int 32, .int 126]) (rest := []) F 3 rfl (lw_S q2085 q2086 q117 q2087) vm_X2_in.2 (by decide) rfl (room_of sc_nil (Nat.le_of_ble_eq_true rfl)) dX2_feed_5 (fun r1 Gr1 br1 sr1 F => ?_)
  refine g_if_ne 13 dX2_feed_8 (by decide) (fun h11 => ?_) (fun h11 => ?_)
  · have F := F.1 h11
    refine g_aload_n dX2_feed_13 rfl 0 rfl ?_
    obtain ⟨c3, F⟩ := F
    refine h_get (v := .int (gI Gr1 x 26)) 1 26 (C := RX2) (T := TX2) (N := 30) rfl in_X2 (by decide) q2015 (Or.inl rfl) rfl c3 rfl dX2_feed_14 ?_
    refine g_bipush (v := 60) dX2_feed_17 (by decide) ?_
    refine g_icmp_ne 25 dX2_feed_19 (by decide) (fun h10 => ?_) (fun h10 => ?_)
    · have F := F.1 h10
      refine g_aload_n dX2_feed_25 rfl 0 rfl ?_
      refine h_get (v := va_rf (gR Gr1 x 25)) 1 25 (C := RX2) (T := TX2) (N := 30) rfl in_X2 (by decide) q2014 (Or.inl rfl) rfl c3 rfl dX2_feed_26 ?_
      refine g_aload_n dX2_feed_29 rfl 0 rfl ?_
      refine h_get (v := .int (gI Gr1 x 26)) 1 26 (C := RX2) (T := TX2) (N := 30) rfl in_X2 (by decide) q2015 (Or.inl rfl) rfl c3 rfl dX2_feed_30 ?_
      refine g_iload_n dX2_feed_33 rfl 1 rfl ?_
      refine g_i2c dX2_feed_34 ?_
      obtain ⟨a4, e5, F⟩ := F
      obtain ⟨c6, F⟩ := F
      obtain ⟨m7, F⟩ := F
      obtain ⟨k8, F⟩ := F
      refine h_cast e5 c6 m7 k8 dX2_feed_35 ?_
      refine g_aload_n dX2_feed_36 rfl 0 rfl ?_
      refine g_dup dX2_feed_37 (va_rf_cat _) ?_
      refine h_get (v := .int (gI (sI Gr1 a4 (gI Gr1 x 26).toNatClampNeg (vp_nar .char ((p1.toUInt32 % 65536).toInt32))) x 26)) 1 26 (C := RX2) (T := TX2) (N := 30) rfl in_X2 (by decide) q2015 (Or.inl rfl) rfl c3 rfl dX2_feed_38 ?_
      refine g_iconst (v := 1) dX2_feed_41 (by decide) ?_
      refine g_iadd dX2_feed_42 ?_
      obtain ⟨m9, F⟩ := F
      refine h_putI (mi := mX2_feed) 1 26 (C := RX2) (T := TX2) (N := 30) rfl in_X2 tyX2_ok nmX2 (by decide) q2015 (Or.inl rfl) (Or.inl rfl) rfl rfl c3 m9 rfl rfl dX2_feed_43 ?_
      refine g_aload_n dX2_feed_46 rfl 0 rfl ?_
      refine h_get (v := .int (gI (sI (sI Gr1 a4 (gI Gr1 x 26).toNatClampNeg (vp_nar .char ((p1.toUInt32 % 65536).toInt32))) x 26 ((gI (sI Gr1 a4 (gI Gr1 x 26).toNatClampNeg (vp_nar .char ((p1.toUInt32 % 65536).toInt32))) x 26) + 1)) x 26)) 1 26 (C := RX2) (T := TX2) (N := 30) rfl in_X2 (by decide) q2015 (Or.inl rfl) rfl c3 rfl dX2_feed_47 ?_
      exact g_iret rfl dX2_feed_50 F
    · have F := F.2 h10
      refine g_bipush (v := (-3)) dX2_feed_22 (by decide) ?_
      exact g_iret rfl dX2_feed_24 F
  · have F := F.2 h11
    refine g_iconst (v := (-1)) dX2_feed_11 (by decide) ?_
    exact g_iret rfl dX2_feed_12 F
theorem rX2_execute_0 {Γ : GE} {l : Launch} {h MC MS : Nat} {Q : Option Value → GH → Prop} {bc bs : Nat} {G : GH} (x : Nat) (F : (gC G x = kO 1 ∧ gM G x = true ∧ GW Γ l mX2_execute h MC MS Q 14 [(0, va_rf (some x)), (1, .int 0), (2, .int 1)] [] (sI (sI G x 27 0) x 28 0) bc bs)) : GW Γ l mX2_execute h MC MS Q 0 [(0, va_rf (some x))] [] G bc bs := by
  refine g_aload_n dX2_execute_0 rfl 0 rfl ?_
  refine g_iconst (v := 0) dX2_execute_1 (by decide) ?_
  obtain ⟨c1, F⟩ := F
  obtain ⟨m2, F⟩ := F
  refine h_putI (mi := mX2_execute) 1 27 (C := RX2) (T := TX2) (N := 30) rfl in_X2 tyX2_ok nmX2 (by decide) q2016 (Or.inl rfl) (Or.inl rfl) rfl rfl c1 m2 rfl rfl dX2_execute_2 ?_
  refine g_aload_n dX2_execute_5 rfl 0 rfl ?_
  refine g_iconst (v := 0) dX2_execute_6 (by decide) ?_
  refine h_putI (mi := mX2_execute) 1 28 (C := RX2) (T := TX2) (N := 30) rfl in_X2 tyX2_ok nmX2 (by decide) q2017 (Or.inl rfl) (Or.inl rfl) rfl rfl c1 m2 rfl rfl dX2_execute_7 ?_
  refine g_iconst (v := 0) dX2_execute_10 (by decide) ?_
  refine s_istore_n (lv' := [(0, va_rf (some x)), (1, .int 0)]) (cat_R cat_nil) dX2_execute_11 rfl (by decide) rfl [1, 0] rfl ?_
  refine g_iconst (v := 1) dX2_execute_12 (by decide) ?_
  refine s_istore_n (lv' := [(0, va_rf (some x)), (1, .int 0), (2, .int 1)]) (cat_R (cat_I cat_nil)) dX2_execute_13 rfl (by decide) rfl [1, 2, 0] rfl ?_
  exact F
theorem rX2_execute_14 {Γ : GE} {l : Launch} {h MC MS : Nat} {Q : Option Value → GH → Prop} {bc bs : Nat} {G : GH} (x : Nat) (p1 : Int32) (p2 : Int32) (F : ((p2 = 0 → (gC G x = kO 1 ∧ ((¬ (gI G x 28) = 0 → (gM G x = true ∧ Q (some (.int ((-200) - (gI (sI G x 26 0) x 27)))) (sI G x 26 0))) ∧ ((gI G x 28) = 0 → (((gI G x 26) ≤ (gI G x 27) → (∃ a3, (gR G x 0) = some a3 ∧ gC G a3 = kA 0 ∧ gM G a3 = true ∧ ∃ a7, (gR G x 5) = some a7 ∧ gC G a7 = kA 0 ∧ gM G a7 = true ∧ (0 : Int32).toNatClampNeg + (298 : Int32).toNatClampNeg ≤ gL G a3 ∧ (0 : Int32).toNatClampNeg + (298 : Int32).toNatClampNeg ≤ gL G a7 ∧ 0 < h ∧ ∀ H14, H14 = (wI G a7 (va_cpy (gI G a3) (gI G a7) (0 : Int32).toNatClampNeg (0 : Int32).toNatClampNeg (298 : Int32).toNatClampNeg)) → gC H14 x = kO 1 ∧ gM H14 x = true ∧ GW Γ l mX2_execute h MC MS Q 130 [(0, va_rf (some x)), (1, .int p1), (2, .int p2), (3, .int 0)] [] (sI (sI H14 x 27 0) x 6 1) bc bs)) ∧ (¬ (gI G x 26) ≤ (gI G x 27) → (gM G x = true ∧ Q (some (.int ((-200) - (gI (sI G x 26 0) x 27)))) (sI G x 26 0)))))))) ∧ (¬ p2 = 0 → (gC G x = kO 1 ∧ cI Γ l h mX2_command [.ref x, .int 0] G bc bs fun r22 Gr22 br22 sr22 => gC Gr22 x = kO 1 ∧ ((¬ (gI Gr22 x 28) = 0 → (GW Γ l mX2_execute h MC MS Q 48 [(0, va_rf (some x)), (1, .int (p1 + 1)), (2, .int p2), (3, .int r22)] [.int 0] Gr22 br22 sr22)) ∧ ((gI Gr22 x 28) = 0 → (cI Γ l h mX2_here [.ref x] Gr22 br22 sr22 fun r26 Gr26 br26 sr26 => ((¬ r26 = 59 → (GW Γ l mX2_execute h MC MS Q 48 [(0, va_rf (some x)), (1, .int (p1 + 1)), (2, .int p2), (3, .int r22)] [.int 0] Gr26 br26 sr26)) ∧ (r26 = 59 → (GW Γ l mX2_execute h MC MS Q 48 [(0, va_rf (some x)), (1, .int (p1 + 1)), (2, .int p2), (3, .int r22)] [.int 1] Gr26 br26 sr26)))))))))) : GW Γ l mX2_execute h MC MS Q 14 [(0, va_rf (some x)), (1, .int p1), (2, .int p2)] [] G bc bs := by
  refine g_iload_n dX2_execute_14 rfl 2 rfl ?_
  refine g_if_eq 70 dX2_execute_15 (by decide) (fun h30 => ?_) (fun h30 => ?_)
  · have F := F.1 h30
    refine g_aload_n dX2_execute_70 rfl 0 rfl ?_
    obtain ⟨c1, F⟩ := F
    refine h_get (v := .int (gI G x 28)) 1 28 (C := RX2) (T := TX2) (N := 30) rfl in_X2 (by decide) q2017 (Or.inl rfl) rfl c1 rfl dX2_execute_71 ?_
    refine g_if_ne 88 dX2_execute_74 (by decide) (fun h21 => ?_) (fun h21 => ?_)
    · have F := F.1 h21
      refine g_aload_n dX2_execute_88 rfl 0 rfl ?_
      refine g_iconst (v := 0) dX2_execute_89 (by decide) ?_
      obtain ⟨m2, F⟩ := F
      refine h_putI (mi := mX2_execute) 1 26 (C := RX2) (T := TX2) (N := 30) rfl in_X2 tyX2_ok nmX2 (by decide) q2015 (Or.inl rfl) (Or.inl rfl) rfl rfl c1 m2 rfl rfl dX2_execute_90 ?_
      refine g_sipush (v := (-200)) dX2_execute_93 (by decide) ?_
      refine g_aload_n dX2_execute_96 rfl 0 rfl ?_
      refine h_get (v := .int (gI (sI G x 26 0) x 27)) 1 27 (C := RX2) (T := TX2) (N := 30) rfl in_X2 (by decide) q2016 (Or.inl rfl) rfl c1 rfl dX2_execute_97 ?_
      refine g_isub dX2_execute_100 ?_
      exact g_iret rfl dX2_execute_101 F
    · have F := F.2 h21
      refine g_aload_n dX2_execute_77 rfl 0 rfl ?_
      refine h_get (v := .int (gI G x 27)) 1 27 (C := RX2) (T := TX2) (N := 30) rfl in_X2 (by decide) q2016 (Or.inl rfl) rfl c1 rfl dX2_execute_78 ?_
      refine g_aload_n dX2_execute_81 rfl 0 rfl ?_
      refine h_get (v := .int (gI G x 26)) 1 26 (C := RX2) (T := TX2) (N := 30) rfl in_X2 (by decide) q2015 (Or.inl rfl) rfl c1 rfl dX2_execute_82 ?_
      refine g_icmp_ge 102 dX2_execute_85 (by decide) (fun h20 => ?_) (fun h20 => ?_)
      · have F := F.1 h20
        refine g_aload_n dX2_execute_102 rfl 0 rfl ?_
        refine h_get (v := va_rf (gR G x 0)) 1 0 (C := RX2) (T := TX2) (N := 30) rfl in_X2 (by decide) q1989 (Or.inl rfl) rfl c1 rfl dX2_execute_103 ?_
        refine g_iconst (v := 0) dX2_execute_106 (by decide) ?_
        refine g_aload_n dX2_execute_107 rfl 0 rfl ?_
        refine h_get (v := va_rf (gR G x 5)) 1 5 (C := RX2) (T := TX2) (N := 30) rfl in_X2 (by decide) q1994 (Or.inl rfl) rfl c1 rfl dX2_execute_108 ?_
        refine g_iconst (v := 0) dX2_execute_111 (by decide) ?_
        refine g_sipush (v := 298) dX2_execute_112 (by decide) ?_
        obtain ⟨a3, e4, F⟩ := F
        obtain ⟨c5, F⟩ := F
        obtain ⟨m6, F⟩ := F
        obtain ⟨a7, e8, F⟩ := F
        obtain ⟨c9, F⟩ := F
        obtain ⟨m10, F⟩ := F
        obtain ⟨k11, F⟩ := F
        obtain ⟨k12, F⟩ := F
        obtain ⟨k13, F⟩ := F
        refine h_copyi 0 (by decide) q1988 q439 q438 q118 e4 c5 m6 e8 c9 m10 (by decide) (by decide) (by decide) k11 k12 (fun _ _ => rfl) k13 (room_of sc_nil (Nat.le_of_ble_eq_true rfl)) dX2_execute_115 ?_
        obtain ⟨H14, h15⟩ : ∃ g : GH, g = (wI G a7 (va_cpy (gI G a3) (gI G a7) (0 : Int32).toNatClampNeg (0 : Int32).toNatClampNeg (298 : Int32).toNatClampNeg)) := ⟨_, rfl⟩
        rw [← h15]
        have F := F H14 h15
        refine g_aload_n dX2_execute_118 rfl 0 rfl ?_
        refine g_iconst (v := 0) dX2_execute_119 (by decide) ?_
        obtain ⟨c17, F⟩ := F
        obtain ⟨m18, F⟩ := F
        refine h_putI (mi := mX2_execute) 1 27 (C := RX2) (T := TX2) (N := 30) rfl in_X2 tyX2_ok nmX2 (by decide) q2016 (Or.inl rfl) (Or.inl rfl) rfl rfl c17 m18 rfl rfl dX2_execute_120 ?_
        refine g_aload_n dX2_execute_123 rfl 0 rfl ?_
        refine g_iconst (v := 1) dX2_execute_124 (by decide) ?_
        refine h_putI (mi := mX2_execute) 1 6 (C := RX2) (T := TX2) (N := 30) rfl in_X2 tyX2_ok nmX2 (by decide) q1995 (Or.inl rfl) (Or.inl rfl) rfl rfl c17 m18 rfl rfl dX2_execute_125 ?_
        refine g_iconst (v := 0) dX2_execute_128 (by decide) ?_
        refine s_istore_n (lv' := [(0, va_rf (some x)), (1, .int p1), (2, .int p2), (3, .int 0)]) (cat_R (cat_I (cat_I cat_nil))) dX2_execute_129 rfl (by decide) rfl [1, 2, 3, 0] rfl ?_
        exact F
      · have F := F.2 h20
        refine g_aload_n dX2_execute_88 rfl 0 rfl ?_
        refine g_iconst (v := 0) dX2_execute_89 (by decide) ?_
        obtain ⟨m19, F⟩ := F
        refine h_putI (mi := mX2_execute) 1 26 (C := RX2) (T := TX2) (N := 30) rfl in_X2 tyX2_ok nmX2 (by decide) q2015 (Or.inl rfl) (Or.inl rfl) rfl rfl c1 m19 rfl rfl dX2_execute_90 ?_
        refine g_sipush (v := (-200)) dX2_execute_93 (by decide) ?_
        refine g_aload_n dX2_execute_96 rfl 0 rfl ?_
        refine h_get (v := .int (gI (sI G x 26 0) x 27)) 1 27 (C := RX2) (T := TX2) (N := 30) rfl in_X2 (by decide) q2016 (Or.inl rfl) rfl c1 rfl dX2_execute_97 ?_
        refine g_isub dX2_execute_100 ?_
        exact g_iret rfl dX2_execute_101 F
  · have F := F.2 h30
    refine g_aload_n dX2_execute_18 rfl 0 rfl ?_
    refine g_iconst (v := 0) dX2_execute_19 (by decide) ?_
    obtain ⟨c23, F⟩ := F
    refine h_callVI (ci := 1) (C := RX2) (T := TX2) (N := 30) (As := [.int 0]) (rest := []) F 1 rfl rfl (lw_V q2449 q2451 qs101 q117 q2452) vm_X2_command (by decide) rfl c23 rfl (room_of sc_nil (Nat.le_of_ble_eq_true rfl)) dX2_execute_20 (fun r22 Gr22 br22 sr22 F => ?_)
    refine s_istore_n (lv' := [(0, va_rf (some x)), (1, .int p1), (2, .int p2), (3, .int r22)]) (cat_R (cat_I (cat_I cat_nil))) dX2_execute_23 rfl (by decide) rfl [1, 2, 3, 0] rfl ?_
    refine s_iinc (v := (p1 + 1)) (lv' := [(0, va_rf (some x)), (1, .int (p1 + 1)), (2, .int p2), (3, .int r22)]) (cat_R (cat_I (cat_I (cat_I cat_nil)))) dX2_execute_24 (k0 := 1) rfl rfl (by decide) rfl [1, 0, 2, 3] rfl ?_
    refine g_aload_n dX2_execute_27 rfl 0 rfl ?_
    obtain ⟨c25, F⟩ := F
    refine h_get (v := .int (gI Gr22 x 28)) 1 28 (C := RX2) (T := TX2) (N := 30) rfl in_X2 (by decide) q2017 (Or.inl rfl) rfl c25 rfl dX2_execute_28 ?_
    refine g_if_ne 47 dX2_execute_31 (by decide) (fun h29 => ?_) (fun h29 => ?_)
    · have F := F.1 h29
      refine g_iconst (v := 0) dX2_execute_47 (by decide) ?_
      exact F
    · have F := F.2 h29
      refine g_aload_n dX2_execute_34 rfl 0 rfl ?_
      refine h_callVI (ci := 1) (C := RX2) (T := TX2) (N := 30) (As := []) (rest := []) F 0 rfl rfl (lw_V q2453 q2455 qs102 q117 q2456) vm_X2_here (by decide) rfl c25 rfl (room_of sc_nil (Nat.le_of_ble_eq_true rfl)) dX2_execute_35 (fun r26 Gr26 br26 sr26 F => ?_)
      refine g_bipush (v := 59) dX2_execute_38 (by decide) ?_
      refine g_icmp_ne 47 dX2_execute_40 (by decide) (fun h28 => ?_) (fun h28 => ?_)
      · have F := F.1 h28
        refine g_iconst (v := 0) dX2_execute_47 (by decide) ?_
        exact F
      · have F := F.2 h28
        refine g_iconst (v := 1) dX2_execute_43 (by decide) ?_
        refine g_goto 48 dX2_execute_44 (by decide) ?_
        exact F
theorem rX2_execute_48 {Γ : GE} {l : Launch} {h MC MS : Nat} {Q : Option Value → GH → Prop} {bc bs : Nat} {G : GH} (x : Nat) (p1 : Int32) (p2 : Int32) (p3 : Int32) (s0 : Int32) (F : (gC G x = kO 1 ∧ ((s0 = 0 → (gM G x = true ∧ GW Γ l mX2_execute h MC MS Q 14 [(0, va_rf (some x)), (1, .int p1), (2, .int s0)] [] (sI G x 27 ((gI G x 27) + 0)) bc bs)) ∧ (¬ s0 = 0 → (gM G x = true ∧ GW Γ l mX2_execute h MC MS Q 14 [(0, va_rf (some x)), (1, .int p1), (2, .int s0)] [] (sI G x 27 ((gI G x 27) + 1)) bc bs))))) : GW Γ l mX2_execute h MC MS Q 48 [(0, va_rf (some x)), (1, .int p1), (2, .int p2), (3, .int p3)] [.int s0] G bc bs := by
  refine s_istore_n (lv' := [(0, va_rf (some x)), (1, .int p1), (2, .int s0), (3, .int p3)]) (cat_R (cat_I (cat_I (cat_I cat_nil)))) dX2_execute_48 rfl (by decide) rfl [1, 2, 0, 3] rfl ?_
  refine g_aload_n dX2_execute_49 rfl 0 rfl ?_
  refine g_dup dX2_execute_50 (va_rf_cat _) ?_
  obtain ⟨c1, F⟩ := F
  refine h_get (v := .int (gI G x 27)) 1 27 (C := RX2) (T := TX2) (N := 30) rfl in_X2 (by decide) q2016 (Or.inl rfl) rfl c1 rfl dX2_execute_51 ?_
  refine g_iload_n dX2_execute_54 rfl 2 rfl ?_
  refine g_if_eq 62 dX2_execute_55 (by decide) (fun h4 => ?_) (fun h4 => ?_)
  · have F := F.1 h4
    refine g_iconst (v := 0) dX2_execute_62 (by decide) ?_
    refine g_iadd dX2_execute_63 ?_
    obtain ⟨m2, F⟩ := F
    refine h_putI (mi := mX2_execute) 1 27 (C := RX2) (T := TX2) (N := 30) rfl in_X2 tyX2_ok nmX2 (by decide) q2016 (Or.inl rfl) (Or.inl rfl) rfl rfl c1 m2 rfl rfl dX2_execute_64 ?_
    refine g_goto 14 dX2_execute_67 (by decide) ?_
    refine GW.lsub (lv' := [(0, va_rf (some x)), (1, .int p1), (2, .int s0)]) [0, 1, 2] rfl ?_
    exact F
  · have F := F.2 h4
    refine g_iconst (v := 1) dX2_execute_58 (by decide) ?_
    refine g_goto 63 dX2_execute_59 (by decide) ?_
    refine g_iadd dX2_execute_63 ?_
    obtain ⟨m3, F⟩ := F
    refine h_putI (mi := mX2_execute) 1 27 (C := RX2) (T := TX2) (N := 30) rfl in_X2 tyX2_ok nmX2 (by decide) q2016 (Or.inl rfl) (Or.inl rfl) rfl rfl c1 m3 rfl rfl dX2_execute_64 ?_
    refine g_goto 14 dX2_execute_67 (by decide) ?_
    refine GW.lsub (lv' := [(0, va_rf (some x)), (1, .int p1), (2, .int s0)]) [0, 1, 2] rfl ?_
    exact F
theorem rX2_execute_130 {Γ : GE} {l : Launch} {h MC MS : Nat} {Q : Option Value → GH → Prop} {bc bs : Nat} {G : GH} (x : Nat) (p1 : Int32) (p2 : Int32) (p3 : Int32) (F : ((p1 ≤ p3 → (GW Γ l mX2_execute h MC MS Q 159 [(0, va_rf (some x)), (1, .int p1), (2, .int p2), (3, .int p3)] [] G bc bs)) ∧ (¬ p1 ≤ p3 → (gC G x = kO 1 ∧ cI Γ l h mX2_command [.ref x, .int 1] G bc bs fun r1 Gr1 br1 sr1 => ((r1 < 0 → (GW Γ l mX2_execute h MC MS Q 159 [(0, va_rf (some x)), (1, .int p1), (2, .int p2), (3, .int p3)] [] Gr1 br1 sr1)) ∧ (¬ r1 < 0 → (gC Gr1 x = kO 1 ∧ gM Gr1 x = true ∧ GW Γ l mX2_execute h MC MS Q 130 [(0, va_rf (some x)), (1, .int p1), (2, .int p2), (3, .int (p3 + 1))] [] (sI Gr1 x 27 ((gI Gr1 x 27) + 1)) br1 sr1))))))) : GW Γ l mX2_execute h MC MS Q 130 [(0, va_rf (some x)), (1, .int p1), (2, .int p2), (3, .int p3)] [] G bc bs := by
  refine g_iload_n dX2_execute_130 rfl 3 rfl ?_
  refine g_iload_n dX2_execute_131 rfl 1 rfl ?_
  refine g_icmp_ge 159 dX2_execute_132 (by decide) (fun h7 => ?_) (fun h7 => ?_)
  · have F := F.1 h7
    exact F
  · have F := F.2 h7
    refine g_aload_n dX2_execute_135 rfl 0 rfl ?_
    refine g_iconst (v := 1) dX2_execute_136 (by decide) ?_
    obtain ⟨c2, F⟩ := F
    refine h_callVI (ci := 1) (C := RX2) (T := TX2) (N := 30) (As := [.int 1]) (rest := []) F 1 rfl rfl (lw_V q2449 q2451 qs101 q117 q2452) vm_X2_command (by decide) rfl c2 rfl (room_of sc_nil (Nat.le_of_ble_eq_true rfl)) dX2_execute_137 (fun r1 Gr1 br1 sr1 F => ?_)
    refine g_if_lt 159 dX2_execute_140 (by decide) (fun h6 => ?_) (fun h6 => ?_)
    · have F := F.1 h6
      exact F
    · have F := F.2 h6
      refine g_aload_n dX2_execute_143 rfl 0 rfl ?_
      refine g_dup dX2_execute_144 (va_rf_cat _) ?_
      obtain ⟨c4, F⟩ := F
      refine h_get (v := .int (gI Gr1 x 27)) 1 27 (C := RX2) (T := TX2) (N := 30) rfl in_X2 (by decide) q2016 (Or.inl rfl) rfl c4 rfl dX2_execute_145 ?_
      refine g_iconst (v := 1) dX2_execute_148 (by decide) ?_
      refine g_iadd dX2_execute_149 ?_
      obtain ⟨m5, F⟩ := F
      refine h_putI (mi := mX2_execute) 1 27 (C := RX2) (T := TX2) (N := 30) rfl in_X2 tyX2_ok nmX2 (by decide) q2016 (Or.inl rfl) (Or.inl rfl) rfl rfl c4 m5 rfl rfl dX2_execute_150 ?_
      refine s_iinc (v := (p3 + 1)) (lv' := [(0, va_rf (some x)), (1, .int p1), (2, .int p2), (3, .int (p3 + 1))]) (cat_R (cat_I (cat_I (cat_I cat_nil)))) dX2_execute_153 (k0 := 3) rfl rfl (by decide) rfl [1, 2, 3, 0] rfl ?_
      refine g_goto 130 dX2_execute_156 (by decide) ?_
      exact F
theorem rX2_execute_159 {Γ : GE} {l : Launch} {h MC MS : Nat} {Q : Option Value → GH → Prop} {bc bs : Nat} {G : GH} (x : Nat) (p1 : Int32) (p2 : Int32) (p3 : Int32) (F : (gC G x = kO 1 ∧ gM G x = true ∧ ((p1 ≤ p3 → (cV Γ l h mX2_push [.ref x, va_rf (gR (sI (sI G x 6 0) x 26 0) x 5)] (sI (sI G x 6 0) x 26 0) bc bs fun Gr3 br3 sr3 => Q (some (.int p1)) Gr3)) ∧ (¬ p1 ≤ p3 → (∃ a5, (gR (sI (sI G x 6 0) x 26 0) x 5) = some a5 ∧ gC (sI (sI G x 6 0) x 26 0) a5 = kA 0 ∧ gM (sI (sI G x 6 0) x 26 0) a5 = true ∧ ∃ a9, (gR (sI (sI G x 6 0) x 26 0) x 0) = some a9 ∧ gC (sI (sI G x 6 0) x 26 0) a9 = kA 0 ∧ gM (sI (sI G x 6 0) x 26 0) a9 = true ∧ (0 : Int32).toNatClampNeg + (298 : Int32).toNatClampNeg ≤ gL (sI (sI G x 6 0) x 26 0) a5 ∧ (0 : Int32).toNatClampNeg + (298 : Int32).toNatClampNeg ≤ gL (sI (sI G x 6 0) x 26 0) a9 ∧ 0 < h ∧ ∀ H16, H16 = (wI (sI (sI G x 6 0) x 26 0) a9 (va_cpy (gI (sI (sI G x 6 0) x 26 0) a5) (gI (sI (sI G x 6 0) x 26 0) a9) (0 : Int32).toNatClampNeg (0 : Int32).toNatClampNeg (298 : Int32).toNatClampNeg)) → Q (some (.int ((-300) - p3))) H16))))) : GW Γ l mX2_execute h MC MS Q 159 [(0, va_rf (some x)), (1, .int p1), (2, .int p2), (3, .int p3)] [] G bc bs := by
  refine g_aload_n dX2_execute_159 rfl 0 rfl ?_
  refine g_iconst (v := 0) dX2_execute_160 (by decide) ?_
  obtain ⟨c1, F⟩ := F
  obtain ⟨m2, F⟩ := F
  refine h_putI (mi := mX2_execute) 1 6 (C := RX2) (T := TX2) (N := 30) rfl in_X2 tyX2_ok nmX2 (by decide) q1995 (Or.inl rfl) (Or.inl rfl) rfl rfl c1 m2 rfl rfl dX2_execute_161 ?_
  refine g_aload_n dX2_execute_164 rfl 0 rfl ?_
  refine g_iconst (v := 0) dX2_execute_165 (by decide) ?_
  refine h_putI (mi := mX2_execute) 1 26 (C := RX2) (T := TX2) (N := 30) rfl in_X2 tyX2_ok nmX2 (by decide) q2015 (Or.inl rfl) (Or.inl rfl) rfl rfl c1 m2 rfl rfl dX2_execute_166 ?_
  refine g_iload_n dX2_execute_169 rfl 3 rfl ?_
  refine g_iload_n dX2_execute_170 rfl 1 rfl ?_
  refine g_icmp_ge 196 dX2_execute_171 (by decide) (fun h19 => ?_) (fun h19 => ?_)
  · have F := F.1 h19
    refine g_aload_n dX2_execute_196 rfl 0 rfl ?_
    refine g_aload_n dX2_execute_197 rfl 0 rfl ?_
    refine h_get (v := va_rf (gR (sI (sI G x 6 0) x 26 0) x 5)) 1 5 (C := RX2) (T := TX2) (N := 30) rfl in_X2 (by decide) q1994 (Or.inl rfl) rfl c1 rfl dX2_execute_198 ?_
    refine h_callVV (ci := 1) (C := RX2) (T := TX2) (N := 30) (As := [va_rf (gR (sI (sI G x 6 0) x 26 0) x 5)]) (rest := []) F 1 rfl rfl (lw_V q2101 q2103 qs56 q117 q2104) vm_X2_push (by decide) rfl c1 rfl (room_of sc_nil (Nat.le_of_ble_eq_true rfl)) dX2_execute_201 (fun Gr3 br3 sr3 F => ?_)
    refine g_iload_n dX2_execute_204 rfl 1 rfl ?_
    exact g_iret rfl dX2_execute_205 F
  · have F := F.2 h19
    refine g_aload_n dX2_execute_174 rfl 0 rfl ?_
    refine h_get (v := va_rf (gR (sI (sI G x 6 0) x 26 0) x 5)) 1 5 (C := RX2) (T := TX2) (N := 30) rfl in_X2 (by decide) q1994 (Or.inl rfl) rfl c1 rfl dX2_execute_175 ?_
    refine g_iconst (v := 0) dX2_execute_178 (by decide) ?_
    refine g_aload_n dX2_execute_179 rfl 0 rfl ?_
    refine h_get (v := va_rf (gR (sI (sI G x 6 0) x 26 0) x 0)) 1 0 (C := RX2) (T := TX2) (N := 30) rfl in_X2 (by decide) q1989 (Or.inl rfl) rfl c1 rfl dX2_execute_180 ?_
    refine g_iconst (v := 0) dX2_execute_183 (by decide) ?_
    refine g_sipush (v := 298) dX2_execute_184 (by decide) ?_
    obtain ⟨a5, e6, F⟩ := F
    obtain ⟨c7, F⟩ := F
    obtain ⟨m8, F⟩ := F
    obtain ⟨a9, e10, F⟩ := F
    obtain ⟨c11, F⟩ := F
    obtain ⟨m12, F⟩ := F
    obtain ⟨k13, F⟩ := F
    obtain ⟨k14, F⟩ := F
    obtain ⟨k15, F⟩ := F
    refine h_copyi 0 (by decide) q1988 q439 q438 q118 e6 c7 m8 e10 c11 m12 (by decide) (by decide) (by decide) k13 k14 (fun _ _ => rfl) k15 (room_of sc_nil (Nat.le_of_ble_eq_true rfl)) dX2_execute_187 ?_
    obtain ⟨H16, h17⟩ : ∃ g : GH, g = (wI (sI (sI G x 6 0) x 26 0) a9 (va_cpy (gI (sI (sI G x 6 0) x 26 0) a5) (gI (sI (sI G x 6 0) x 26 0) a9) (0 : Int32).toNatClampNeg (0 : Int32).toNatClampNeg (298 : Int32).toNatClampNeg)) := ⟨_, rfl⟩
    rw [← h17]
    have F := F H16 h17
    refine g_sipush (v := (-300)) dX2_execute_190 (by decide) ?_
    refine g_iload_n dX2_execute_193 rfl 3 rfl ?_
    refine g_isub dX2_execute_194 ?_
    exact g_iret rfl dX2_execute_195 F
theorem rX2_command_0 {Γ : GE} {l : Launch} {h MC MS : Nat} {Q : Option Value → GH → Prop} {bc bs : Nat} {G : GH} (x : Nat) (p1 : Int32) (F : (gC G x = kO 1 ∧ GW Γ l mX2_command h MC MS Q 5 [(0, va_rf (some x)), (1, .int p1), (2, .int (gI G x 27))] [] G bc bs)) : GW Γ l mX2_command h MC MS Q 0 [(0, va_rf (some x)), (1, .int p1)] [] G bc bs := by
  refine g_aload_n dX2_command_0 rfl 0 rfl ?_
  obtain ⟨c1, F⟩ := F
  refine h_get (v := .int (gI G x 27)) 1 27 (C := RX2) (T := TX2) (N := 30) rfl in_X2 (by decide) q2016 (Or.inl rfl) rfl c1 rfl dX2_command_1 ?_
  refine s_istore_n (lv' := [(0, va_rf (some x)), (1, .int p1), (2, .int (gI G x 27))]) (cat_R (cat_I cat_nil)) dX2_command_4 rfl (by decide) rfl [1, 2, 0] rfl ?_
  exact F
theorem rX2_command_5 {Γ : GE} {l : Launch} {h MC MS : Nat} {Q : Option Value → GH → Prop} {bc bs : Nat} {G : GH} (x : Nat) (p1 : Int32) (p2 : Int32) (F : (gC G x = kO 1 ∧ cI Γ l h mX2_here [.ref x] G bc bs fun r1 Gr1 br1 sr1 => cI Γ l h mX2_in [.int r1, .int 97, .int 122] Gr1 br1 sr1 fun r4 Gr4 br4 sr4 => ((r4 = 0 → (gC Gr4 x = kO 1 ∧ cI Γ l h mX2_wordOf [.ref x, .int p2] Gr4 br4 sr4 fun r6 Gr6 br6 sr6 => (((0 : Int32) ≤ r6 → ((¬ r6 = 0 → ((r6 = 1 → (GW Γ l mX2_command h MC MS Q 93 [(0, va_rf (some x)), (1, .int p1), (2, .int p2), (3, .int r6), (4, .int 1), (5, .int 0)] [] Gr6 br6 sr6)) ∧ (¬ r6 = 1 → ((¬ r6 = 6 → ((r6 ≤ 7 → (GW Γ l mX2_command h MC MS Q 93 [(0, va_rf (some x)), (1, .int p1), (2, .int p2), (3, .int r6), (4, .int 2), (5, .int 0)] [] Gr6 br6 sr6)) ∧ (¬ r6 ≤ 7 → (GW Γ l mX2_command h MC MS Q 93 [(0, va_rf (some x)), (1, .int p1), (2, .int p2), (3, .int r6), (4, .int 0), (5, .int 0)] [] Gr6 br6 sr6)))) ∧ (r6 = 6 → (GW Γ l mX2_command h MC MS Q 93 [(0, va_rf (some x)), (1, .int p1), (2, .int p2), (3, .int r6), (4, .int 1), (5, .int 0)] [] Gr6 br6 sr6)))))) ∧ (r6 = 0 → (GW Γ l mX2_command h MC MS Q 93 [(0, va_rf (some x)), (1, .int p1), (2, .int p2), (3, .int r6), (4, .int 4), (5, .int 0)] [] Gr6 br6 sr6)))) ∧ (¬ (0 : Int32) ≤ r6 → (gC Gr6 x = kO 1 ∧ gM Gr6 x = true ∧ Q (some (.int 0)) (sI (sI Gr6 x 27 p2) x 28 1)))))) ∧ (¬ r4 = 0 → (gC Gr4 x = kO 1 ∧ gM Gr4 x = true ∧ GW Γ l mX2_command h MC MS Q 5 [(0, va_rf (some x)), (1, .int p1), (2, .int p2)] [] (sI Gr4 x 27 ((gI Gr4 x 27) + 1)) br4 sr4))))) : GW Γ l mX2_command h MC MS Q 5 [(0, va_rf (some x)), (1, .int p1), (2, .int p2)] [] G bc bs := by
  refine g_aload_n dX2_command_5 rfl 0 rfl ?_
  obtain ⟨c2, F⟩ := F
  refine h_callVI (ci := 1) (C := RX2) (T := TX2) (N := 30) (As := []) (rest := []) F 0 rfl rfl (lw_V q2453 q2455 qs102 q117 q2456) vm_X2_here (by decide) rfl c2 rfl (room_of sc_nil (Nat.le_of_ble_eq_true rfl)) dX2_command_6 (fun r1 Gr1 br1 sr1 F => ?_)
  refine g_bipush (v := 97) dX2_command_9 (by decide) ?_
  refine g_bipush (v := 122) dX2_command_11 (by decide) ?_
  refine h_callSI (As := [.int r1, .int 97, .int 122]) (rest := []) F 3 rfl (lw_S q2085 q2086 q117 q2087) vm_X2_in.2 (by decide) rfl (room_of sc_nil (Nat.le_of_ble_eq_true rfl)) dX2_command_13 (fun r4 Gr4 br4 sr4 F => ?_)
  refine g_if_eq 32 dX2_command_16 (by decide) (fun h18 => ?_) (fun h18 => ?_)
  · have F := F.1 h18
    refine g_aload_n dX2_command_32 rfl 0 rfl ?_
    refine g_iload_n dX2_command_33 rfl 2 rfl ?_
    obtain ⟨c7, F⟩ := F
    refine h_callVI (ci := 1) (C := RX2) (T := TX2) (N := 30) (As := [.int p2]) (rest := []) F 1 rfl rfl (lw_V q2457 q2459 qs103 q117 q2460) vm_X2_wordOf (by decide) rfl c7 rfl (room_of sc_nil (Nat.le_of_ble_eq_true rfl)) dX2_command_34 (fun r6 Gr6 br6 sr6 F => ?_)
    refine s_istore_n (lv' := [(0, va_rf (some x)), (1, .int p1), (2, .int p2), (3, .int r6)]) (cat_R (cat_I (cat_I cat_nil))) dX2_command_37 rfl (by decide) rfl [1, 2, 3, 0] rfl ?_
    refine g_iload_n dX2_command_38 rfl 3 rfl ?_
    refine g_if_ge 54 dX2_command_39 (by decide) (fun h15 => ?_) (fun h15 => ?_)
    · have F := F.1 h15
      refine g_iload_n dX2_command_54 rfl 3 rfl ?_
      refine g_if_ne 62 dX2_command_55 (by decide) (fun h12 => ?_) (fun h12 => ?_)
      · have F := F.1 h12
        refine g_iload_n dX2_command_62 rfl 3 rfl ?_
        refine g_iconst (v := 1) dX2_command_63 (by decide) ?_
        refine g_icmp_eq 73 dX2_command_64 (by decide) (fun h11 => ?_) (fun h11 => ?_)
        · have F := F.1 h11
          refine g_iconst (v := 1) dX2_command_73 (by decide) ?_
          refine g_goto 88 dX2_command_74 (by decide) ?_
          refine s_istore (lv' := [(0, va_rf (some x)), (1, .int p1), (2, .int p2), (3, .int r6), (4, .int 1)]) (cat_R (cat_I (cat_I (cat_I cat_nil)))) dX2_command_88 (by decide) rfl [1, 2, 3, 4, 0] rfl ?_
          refine g_iconst (v := 0) dX2_command_90 (by decide) ?_
          refine s_istore (lv' := [(0, va_rf (some x)), (1, .int p1), (2, .int p2), (3, .int r6), (4, .int 1), (5, .int 0)]) (cat_R (cat_I (cat_I (cat_I (cat_I cat_nil))))) dX2_command_91 (by decide) rfl [1, 2, 3, 4, 5, 0] rfl ?_
          exact F
        · have F := F.2 h11
          refine g_iload_n dX2_command_67 rfl 3 rfl ?_
          refine g_bipush (v := 6) dX2_command_68 (by decide) ?_
          refine g_icmp_ne 77 dX2_command_70 (by decide) (fun h10 => ?_) (fun h10 => ?_)
          · have F := F.1 h10
            refine g_iload_n dX2_command_77 rfl 3 rfl ?_
            refine g_bipush (v := 7) dX2_command_78 (by decide) ?_
            refine g_icmp_le 87 dX2_command_80 (by decide) (fun h9 => ?_) (fun h9 => ?_)
            · have F := F.1 h9
              refine g_iconst (v := 2) dX2_command_87 (by decide) ?_
              refine s_istore (lv' := [(0, va_rf (some x)), (1, .int p1), (2, .int p2), (3, .int r6), (4, .int 2)]) (cat_R (cat_I (cat_I (cat_I cat_nil)))) dX2_command_88 (by decide) rfl [1, 2, 3, 4, 0] rfl ?_
              refine g_iconst (v := 0) dX2_command_90 (by decide) ?_
              refine s_istore (lv' := [(0, va_rf (some x)), (1, .int p1), (2, .int p2), (3, .int r6), (4, .int 2), (5, .int 0)]) (cat_R (cat_I (cat_I (cat_I (cat_I cat_nil))))) dX2_command_91 (by decide) rfl [1, 2, 3, 4, 5, 0] rfl ?_
              exact F
            · have F := F.2 h9
              refine g_iconst (v := 0) dX2_command_83 (by decide) ?_
              refine g_goto 88 dX2_command_84 (by decide) ?_
              refine s_istore (lv' := [(0, va_rf (some x)), (1, .int p1), (2, .int p2), (3, .int r6), (4, .int 0)]) (cat_R (cat_I (cat_I (cat_I cat_nil)))) dX2_command_88 (by decide) rfl [1, 2, 3, 4, 0] rfl ?_
              refine g_iconst (v := 0) dX2_command_90 (by decide) ?_
              refine s_istore (lv' := [(0, va_rf (some x)), (1, .int p1), (2, .int p2), (3, .int r6), (4, .int 0), (5, .int 0)]) (cat_R (cat_I (cat_I (cat_I (cat_I cat_nil))))) dX2_command_91 (by decide) rfl [1, 2, 3, 4, 5, 0] rfl ?_
              exact F
          · have F := F.2 h10
            refine g_iconst (v := 1) dX2_command_73 (by decide) ?_
            refine g_goto 88 dX2_command_74 (by decide) ?_
            refine s_istore (lv' := [(0, va_rf (some x)), (1, .int p1), (2, .int p2), (3, .int r6), (4, .int 1)]) (cat_R (cat_I (cat_I (cat_I cat_nil)))) dX2_command_88 (by decide) rfl [1, 2, 3, 4, 0] rfl ?_
            refine g_iconst (v := 0) dX2_command_90 (by decide) ?_
            refine s_istore (lv' := [(0, va_rf (some x)), (1, .int p1), (2, .int p2), (3, .int r6), (4, .int 1), (5, .int 0)]) (cat_R (cat_I (cat_I (cat_I (cat_I cat_nil))))) dX2_command_91 (by decide) rfl [1, 2, 3, 4, 5, 0] rfl ?_
            exact F
      · have F := F.2 h12
        refine g_iconst (v := 4) dX2_command_58 (by decide) ?_
        refine g_goto 88 dX2_command_59 (by decide) ?_
        refine s_istore (lv' := [(0, va_rf (some x)), (1, .int p1), (2, .int p2), (3, .int r6), (4, .int 4)]) (cat_R (cat_I (cat_I (cat_I cat_nil)))) dX2_command_88 (by decide) rfl [1, 2, 3, 4, 0] rfl ?_
        refine g_iconst (v := 0) dX2_command_90 (by decide) ?_
        refine s_istore (lv' := [(0, va_rf (some x)), (1, .int p1), (2, .int p2), (3, .int r6), (4, .int 4), (5, .int 0)]) (cat_R (cat_I (cat_I (cat_I (cat_I cat_nil))))) dX2_command_91 (by decide) rfl [1, 2, 3, 4, 5, 0] rfl ?_
        exact F
    · have F := F.2 h15
      refine g_aload_n dX2_command_42 rfl 0 rfl ?_
      refine g_iload_n dX2_command_43 rfl 2 rfl ?_
      obtain ⟨c13, F⟩ := F
      obtain ⟨m14, F⟩ := F
      refine h_putI (mi := mX2_command) 1 27 (C := RX2) (T := TX2) (N := 30) rfl in_X2 tyX2_ok nmX2 (by decide) q2016 (Or.inl rfl) (Or.inl rfl) rfl rfl c13 m14 rfl rfl dX2_command_44 ?_
      refine g_aload_n dX2_command_47 rfl 0 rfl ?_
      refine g_iconst (v := 1) dX2_command_48 (by decide) ?_
      refine h_putI (mi := mX2_command) 1 28 (C := RX2) (T := TX2) (N := 30) rfl in_X2 tyX2_ok nmX2 (by decide) q2017 (Or.inl rfl) (Or.inl rfl) rfl rfl c13 m14 rfl rfl dX2_command_49 ?_
      refine g_iconst (v := 0) dX2_command_52 (by decide) ?_
      exact g_iret rfl dX2_command_53 F
  · have F := F.2 h18
    refine g_aload_n dX2_command_19 rfl 0 rfl ?_
    refine g_dup dX2_command_20 (va_rf_cat _) ?_
    obtain ⟨c16, F⟩ := F
    refine h_get (v := .int (gI Gr4 x 27)) 1 27 (C := RX2) (T := TX2) (N := 30) rfl in_X2 (by decide) q2016 (Or.inl rfl) rfl c16 rfl dX2_command_21 ?_
    refine g_iconst (v := 1) dX2_command_24 (by decide) ?_
    refine g_iadd dX2_command_25 ?_
    obtain ⟨m17, F⟩ := F
    refine h_putI (mi := mX2_command) 1 27 (C := RX2) (T := TX2) (N := 30) rfl in_X2 tyX2_ok nmX2 (by decide) q2016 (Or.inl rfl) (Or.inl rfl) rfl rfl c16 m17 rfl rfl dX2_command_26 ?_
    refine g_goto 5 dX2_command_29 (by decide) ?_
    exact F
theorem rX2_command_93 {Γ : GE} {l : Launch} {h MC MS : Nat} {Q : Option Value → GH → Prop} {bc bs : Nat} {G : GH} (x : Nat) (p1 : Int32) (p2 : Int32) (p3 : Int32) (p4 : Int32) (p5 : Int32) (F : ((p4 ≤ p5 → (GW Γ l mX2_command h MC MS Q 119 [(0, va_rf (some x)), (1, .int p1), (2, .int p2), (3, .int p3), (4, .int p4), (5, .int p5)] [] G bc bs)) ∧ (¬ p4 ≤ p5 → (gC G x = kO 1 ∧ ((¬ (gI G x 28) = 0 → (GW Γ l mX2_command h MC MS Q 119 [(0, va_rf (some x)), (1, .int p1), (2, .int p2), (3, .int p3), (4, .int p4), (5, .int p5)] [] G bc bs)) ∧ ((gI G x 28) = 0 → (cV Γ l h mX2_readNumber [.ref x, .int p5] G bc bs fun Gr2 br2 sr2 => GW Γ l mX2_command h MC MS Q 93 [(0, va_rf (some x)), (1, .int p1), (2, .int p2), (3, .int p3), (4, .int p4), (5, .int (p5 + 1))] [] Gr2 br2 sr2))))))) : GW Γ l mX2_command h MC MS Q 93 [(0, va_rf (some x)), (1, .int p1), (2, .int p2), (3, .int p3), (4, .int p4), (5, .int p5)] [] G bc bs := by
  refine g_iload dX2_command_93 5 rfl ?_
  refine g_iload dX2_command_95 4 rfl ?_
  refine g_icmp_ge 119 dX2_command_97 (by decide) (fun h5 => ?_) (fun h5 => ?_)
  · have F := F.1 h5
    exact F
  · have F := F.2 h5
    refine g_aload_n dX2_command_100 rfl 0 rfl ?_
    obtain ⟨c1, F⟩ := F
    refine h_get (v := .int (gI G x 28)) 1 28 (C := RX2) (T := TX2) (N := 30) rfl in_X2 (by decide) q2017 (Or.inl rfl) rfl c1 rfl dX2_command_101 ?_
    refine g_if_ne 119 dX2_command_104 (by decide) (fun h4 => ?_) (fun h4 => ?_)
    · have F := F.1 h4
      exact F
    · have F := F.2 h4
      refine g_aload_n dX2_command_107 rfl 0 rfl ?_
      refine g_iload dX2_command_108 5 rfl ?_
      refine h_callVV (ci := 1) (C := RX2) (T := TX2) (N := 30) (As := [.int p5]) (rest := []) F 1 rfl rfl (lw_V q2476 q2478 qs105 q117 q2479) vm_X2_readNumber (by decide) rfl c1 rfl (room_of sc_nil (Nat.le_of_ble_eq_true rfl)) dX2_command_110 (fun Gr2 br2 sr2 F => ?_)
      refine s_iinc (v := (p5 + 1)) (lv' := [(0, va_rf (some x)), (1, .int p1), (2, .int p2), (3, .int p3), (4, .int p4), (5, .int (p5 + 1))]) (cat_R (cat_I (cat_I (cat_I (cat_I (cat_I cat_nil)))))) dX2_command_113 (k0 := 5) rfl rfl (by decide) rfl [1, 2, 3, 4, 5, 0] rfl ?_
      refine g_goto 93 dX2_command_116 (by decide) ?_
      exact F
theorem rX2_command_119 {Γ : GE} {l : Launch} {h MC MS : Nat} {Q : Option Value → GH → Prop} {bc bs : Nat} {G : GH} (x : Nat) (p1 : Int32) (p2 : Int32) (p3 : Int32) (p4 : Int32) (p5 : Int32) (F : (gC G x = kO 1 ∧ ((¬ (gI G x 28) = 0 → (Q (some (.int 0)) G)) ∧ ((gI G x 28) = 0 → ((¬ p1 = 0 → (cI Γ l h mX2_perform [.ref x, .int p3] G bc bs fun r2 Gr2 br2 sr2 => Q (some (.int r2)) Gr2)) ∧ (p1 = 0 → (Q (some (.int 0)) G))))))) : GW Γ l mX2_command h MC MS Q 119 [(0, va_rf (some x)), (1, .int p1), (2, .int p2), (3, .int p3), (4, .int p4), (5, .int p5)] [] G bc bs := by
  refine g_aload_n dX2_command_119 rfl 0 rfl ?_
  obtain ⟨c1, F⟩ := F
  refine h_get (v := .int (gI G x 28)) 1 28 (C := RX2) (T := TX2) (N := 30) rfl in_X2 (by decide) q2017 (Or.inl rfl) rfl c1 rfl dX2_command_120 ?_
  refine g_if_ne 130 dX2_command_123 (by decide) (fun h5 => ?_) (fun h5 => ?_)
  · have F := F.1 h5
    refine g_iconst (v := 0) dX2_command_130 (by decide) ?_
    refine g_goto 139 dX2_command_131 (by decide) ?_
    exact g_iret rfl dX2_command_139 F
  · have F := F.2 h5
    refine g_iload_n dX2_command_126 rfl 1 rfl ?_
    refine g_if_ne 134 dX2_command_127 (by decide) (fun h4 => ?_) (fun h4 => ?_)
    · have F := F.1 h4
      refine g_aload_n dX2_command_134 rfl 0 rfl ?_
      refine g_iload_n dX2_command_135 rfl 3 rfl ?_
      refine h_callVI (ci := 1) (C := RX2) (T := TX2) (N := 30) (As := [.int p3]) (rest := []) F 1 rfl rfl (lw_V q2480 q2482 qs106 q117 q2483) vm_X2_perform (by decide) rfl c1 rfl (room_of sc_nil (Nat.le_of_ble_eq_true rfl)) dX2_command_136 (fun r2 Gr2 br2 sr2 F => ?_)
      exact g_iret rfl dX2_command_139 F
    · have F := F.2 h4
      refine g_iconst (v := 0) dX2_command_130 (by decide) ?_
      refine g_goto 139 dX2_command_131 (by decide) ?_
      exact g_iret rfl dX2_command_139 F
theorem rX2_here_0 {Γ : GE} {l : Launch} {h MC MS : Nat} {Q : Option Value → GH → Prop} {bc bs : Nat} {G : GH} (x : Nat) (F : (gC G x = kO 1 ∧ (((gI G x 26) ≤ (gI G x 27) → (Q (some (.int 0)) G)) ∧ (¬ (gI G x 26) ≤ (gI G x 27) → (∃ a2, (gR G x 25) = some a2 ∧ gC G a2 = kA 3 ∧ vp_in (gI G x 27) (gL G a2) ∧ Q (some (.int (gI G a2 (gI G x 27).toNatClampNeg))) G))))) : GW Γ l mX2_here h MC MS Q 0 [(0, va_rf (some x))] [] G bc bs := by
  refine g_aload_n dX2_here_0 rfl 0 rfl ?_
  obtain ⟨c1, F⟩ := F
  refine h_get (v := .int (gI G x 27)) 1 27 (C := RX2) (T := TX2) (N := 30) rfl in_X2 (by decide) q2016 (Or.inl rfl) rfl c1 rfl dX2_here_1 ?_
  refine g_aload_n dX2_here_4 rfl 0 rfl ?_
  refine h_get (v := .int (gI G x 26)) 1 26 (C := RX2) (T := TX2) (N := 30) rfl in_X2 (by decide) q2015 (Or.inl rfl) rfl c1 rfl dX2_here_5 ?_
  refine g_icmp_ge 23 dX2_here_8 (by decide) (fun h6 => ?_) (fun h6 => ?_)
  · have F := F.1 h6
    refine g_iconst (v := 0) dX2_here_23 (by decide) ?_
    exact g_iret rfl dX2_here_24 F
  · have F := F.2 h6
    refine g_aload_n dX2_here_11 rfl 0 rfl ?_
    refine h_get (v := va_rf (gR G x 25)) 1 25 (C := RX2) (T := TX2) (N := 30) rfl in_X2 (by decide) q2014 (Or.inl rfl) rfl c1 rfl dX2_here_12 ?_
    refine g_aload_n dX2_here_15 rfl 0 rfl ?_
    refine h_get (v := .int (gI G x 27)) 1 27 (C := RX2) (T := TX2) (N := 30) rfl in_X2 (by decide) q2016 (Or.inl rfl) rfl c1 rfl dX2_here_16 ?_
    obtain ⟨a2, e3, F⟩ := F
    obtain ⟨c4, F⟩ := F
    obtain ⟨k5, F⟩ := F
    refine h_cald e3 c4 k5 dX2_here_19 ?_
    refine g_goto 24 dX2_here_20 (by decide) ?_
    exact g_iret rfl dX2_here_24 F
theorem rX2_wordOf_0 {Γ : GE} {l : Launch} {h MC MS : Nat} {Q : Option Value → GH → Prop} {bc bs : Nat} {G : GH} (x : Nat) (p1 : Int32) (F : (1 ≤ bc ∧ 10 ≤ bs ∧ ∀ q1, gC G q1 = 0 → gA Γ q1 → gC (nA G q1 6 10) q1 = kA 6 ∧ gM (nA G q1 6 10) q1 = true ∧ vp_in 0 (gL (nA G q1 6 10) q1) ∧ okS (nA G q1 6 10) 6 (some (Γ.2.2.2 43)) ∧ vp_in 1 (gL (sR (nA G q1 6 10) q1 (0 : Int32).toNatClampNeg (some (Γ.2.2.2 43))) q1) ∧ okS (sR (nA G q1 6 10) q1 (0 : Int32).toNatClampNeg (some (Γ.2.2.2 43))) 6 (some (Γ.2.2.2 44)) ∧ vp_in 2 (gL (sR (sR (nA G q1 6 10) q1 (0 : Int32).toNatClampNeg (some (Γ.2.2.2 43))) q1 (1 : Int32).toNatClampNeg (some (Γ.2.2.2 44))) q1) ∧ okS (sR (sR (nA G q1 6 10) q1 (0 : Int32).toNatClampNeg (some (Γ.2.2.2 43))) q1 (1 : Int32).toNatClampNeg (some (Γ.2.2.2 44))) 6 (some (Γ.2.2.2 45)) ∧ vp_in 3 (gL (sR (sR (sR (nA G q1 6 10) q1 (0 : Int32).toNatClampNeg (some (Γ.2.2.2 43))) q1 (1 : Int32).toNatClampNeg (some (Γ.2.2.2 44))) q1 (2 : Int32).toNatClampNeg (some (Γ.2.2.2 45))) q1) ∧ okS (sR (sR (sR (nA G q1 6 10) q1 (0 : Int32).toNatClampNeg (some (Γ.2.2.2 43))) q1 (1 : Int32).toNatClampNeg (some (Γ.2.2.2 44))) q1 (2 : Int32).toNatClampNeg (some (Γ.2.2.2 45))) 6 (some (Γ.2.2.2 46)) ∧ vp_in 4 (gL (sR (sR (sR (sR (nA G q1 6 10) q1 (0 : Int32).toNatClampNeg (some (Γ.2.2.2 43))) q1 (1 : Int32).toNatClampNeg (some (Γ.2.2.2 44))) q1 (2 : Int32).toNatClampNeg (some (Γ.2.2.2 45))) q1 (3 : Int32).toNatClampNeg (some (Γ.2.2.2 46))) q1) ∧ okS (sR (sR (sR (sR (nA G q1 6 10) q1 (0 : Int32).toNatClampNeg (some (Γ.2.2.2 43))) q1 (1 : Int32).toNatClampNeg (some (Γ.2.2.2 44))) q1 (2 : Int32).toNatClampNeg (some (Γ.2.2.2 45))) q1 (3 : Int32).toNatClampNeg (some (Γ.2.2.2 46))) 6 (some (Γ.2.2.2 47)) ∧ vp_in 5 (gL (sR (sR (sR (sR (sR (nA G q1 6 10) q1 (0 : Int32).toNatClampNeg (some (Γ.2.2.2 43))) q1 (1 : Int32).toNatClampNeg (some (Γ.2.2.2 44))) q1 (2 : Int32).toNatClampNeg (some (Γ.2.2.2 45))) q1 (3 : Int32).toNatClampNeg (some (Γ.2.2.2 46))) q1 (4 : Int32).toNatClampNeg (some (Γ.2.2.2 47))) q1) ∧ okS (sR (sR (sR (sR (sR (nA G q1 6 10) q1 (0 : Int32).toNatClampNeg (some (Γ.2.2.2 43))) q1 (1 : Int32).toNatClampNeg (some (Γ.2.2.2 44))) q1 (2 : Int32).toNatClampNeg (some (Γ.2.2.2 45))) q1 (3 : Int32).toNatClampNeg (some (Γ.2.2.2 46))) q1 (4 : Int32).toNatClampNeg (some (Γ.2.2.2 47))) 6 (some (Γ.2.2.2 48)) ∧ vp_in 6 (gL (sR (sR (sR (sR (sR (sR (nA G q1 6 10) q1 (0 : Int32).toNatClampNeg (some (Γ.2.2.2 43))) q1 (1 : Int32).toNatClampNeg (some (Γ.2.2.2 44))) q1 (2 : Int32).toNatClampNeg (some (Γ.2.2.2 45))) q1 (3 : Int32).toNatClampNeg (some (Γ.2.2.2 46))) q1 (4 : Int32).toNatClampNeg (some (Γ.2.2.2 47))) q1 (5 : Int32).toNatClampNeg (some (Γ.2.2.2 48))) q1) ∧ okS (sR (sR (sR (sR (sR (sR (nA G q1 6 10) q1 (0 : Int32).toNatClampNeg (some (Γ.2.2.2 43))) q1 (1 : Int32).toNatClampNeg (some (Γ.2.2.2 44))) q1 (2 : Int32).toNatClampNeg (some (Γ.2.2.2 45))) q1 (3 : Int32).toNatClampNeg (some (Γ.2.2.2 46))) q1 (4 : Int32).toNatClampNeg (some (Γ.2.2.2 47))) q1 (5 : Int32).toNatClampNeg (some (Γ.2.2.2 48))) 6 (some (Γ.2.2.2 49)) ∧ vp_in 7 (gL (sR (sR (sR (sR (sR (sR (sR (nA G q1 6 10) q1 (0 : Int32).toNatClampNeg (some (Γ.2.2.2 43))) q1 (1 : Int32).toNatClampNeg (some (Γ.2.2.2 44))) q1 (2 : Int32).toNatClampNeg (some (Γ.2.2.2 45))) q1 (3 : Int32).toNatClampNeg (some (Γ.2.2.2 46))) q1 (4 : Int32).toNatClampNeg (some (Γ.2.2.2 47))) q1 (5 : Int32).toNatClampNeg (some (Γ.2.2.2 48))) q1 (6 : Int32).toNatClampNeg (some (Γ.2.2.2 49))) q1) ∧ okS (sR (sR (sR (sR (sR (sR (sR (nA G q1 6 10) q1 (0 : Int32).toNatClampNeg (some (Γ.2.2.2 43))) q1 (1 : Int32).toNatClampNeg (some (Γ.2.2.2 44))) q1 (2 : Int32).toNatClampNeg (some (Γ.2.2.2 45))) q1 (3 : Int32).toNatClampNeg (some (Γ.2.2.2 46))) q1 (4 : Int32).toNatClampNeg (some (Γ.2.2.2 47))) q1 (5 : Int32).toNatClampNeg (some (Γ.2.2.2 48))) q1 (6 : Int32).toNatClampNeg (some (Γ.2.2.2 49))) 6 (some (Γ.2.2.2 50)) ∧ vp_in 8 (gL (sR (sR (sR (sR (sR (sR (sR (sR (nA G q1 6 10) q1 (0 : Int32).toNatClampNeg (some (Γ.2.2.2 43))) q1 (1 : Int32).toNatClampNeg (some (Γ.2.2.2 44))) q1 (2 : Int32).toNatClampNeg (some (Γ.2.2.2 45))) q1 (3 : Int32).toNatClampNeg (some (Γ.2.2.2 46))) q1 (4 : Int32).toNatClampNeg (some (Γ.2.2.2 47))) q1 (5 : Int32).toNatClampNeg (some (Γ.2.2.2 48))) q1 (6 : Int32).toNatClampNeg (some (Γ.2.2.2 49))) q1 (7 : Int32).toNatClampNeg (some (Γ.2.2.2 50))) q1) ∧ okS (sR (sR (sR (sR (sR (sR (sR (sR (nA G q1 6 10) q1 (0 : Int32).toNatClampNeg (some (Γ.2.2.2 43))) q1 (1 : Int32).toNatClampNeg (some (Γ.2.2.2 44))) q1 (2 : Int32).toNatClampNeg (some (Γ.2.2.2 45))) q1 (3 : Int32).toNatClampNeg (some (Γ.2.2.2 46))) q1 (4 : Int32).toNatClampNeg (some (Γ.2.2.2 47))) q1 (5 : Int32).toNatClampNeg (some (Γ.2.2.2 48))) q1 (6 : Int32).toNatClampNeg (some (Γ.2.2.2 49))) q1 (7 : Int32).toNatClampNeg (some (Γ.2.2.2 50))) 6 (some (Γ.2.2.2 51)) ∧ vp_in 9 (gL (sR (sR (sR (sR (sR (sR (sR (sR (sR (nA G q1 6 10) q1 (0 : Int32).toNatClampNeg (some (Γ.2.2.2 43))) q1 (1 : Int32).toNatClampNeg (some (Γ.2.2.2 44))) q1 (2 : Int32).toNatClampNeg (some (Γ.2.2.2 45))) q1 (3 : Int32).toNatClampNeg (some (Γ.2.2.2 46))) q1 (4 : Int32).toNatClampNeg (some (Γ.2.2.2 47))) q1 (5 : Int32).toNatClampNeg (some (Γ.2.2.2 48))) q1 (6 : Int32).toNatClampNeg (some (Γ.2.2.2 49))) q1 (7 : Int32).toNatClampNeg (some (Γ.2.2.2 50))) q1 (8 : Int32).toNatClampNeg (some (Γ.2.2.2 51))) q1) ∧ okS (sR (sR (sR (sR (sR (sR (sR (sR (sR (nA G q1 6 10) q1 (0 : Int32).toNatClampNeg (some (Γ.2.2.2 43))) q1 (1 : Int32).toNatClampNeg (some (Γ.2.2.2 44))) q1 (2 : Int32).toNatClampNeg (some (Γ.2.2.2 45))) q1 (3 : Int32).toNatClampNeg (some (Γ.2.2.2 46))) q1 (4 : Int32).toNatClampNeg (some (Γ.2.2.2 47))) q1 (5 : Int32).toNatClampNeg (some (Γ.2.2.2 48))) q1 (6 : Int32).toNatClampNeg (some (Γ.2.2.2 49))) q1 (7 : Int32).toNatClampNeg (some (Γ.2.2.2 50))) q1 (8 : Int32).toNatClampNeg (some (Γ.2.2.2 51))) 6 (some (Γ.2.2.2 52)) ∧ GW Γ l mX2_wordOf h MC MS Q 75 [(0, va_rf (some x)), (1, .int p1), (2, va_rf (some q1)), (3, .int (-1)), (4, .int 0)] [] (sR (sR (sR (sR (sR (sR (sR (sR (sR (sR (nA G q1 6 10) q1 (0 : Int32).toNatClampNeg (some (Γ.2.2.2 43))) q1 (1 : Int32).toNatClampNeg (some (Γ.2.2.2 44))) q1 (2 : Int32).toNatClampNeg (some (Γ.2.2.2 45))) q1 (3 : Int32).toNatClampNeg (some (Γ.2.2.2 46))) q1 (4 : Int32).toNatClampNeg (some (Γ.2.2.2 47))) q1 (5 : Int32).toNatClampNeg (some (Γ.2.2.2 48))) q1 (6 : Int32).toNatClampNeg (some (Γ.2.2.2 49))) q1 (7 : Int32).toNatClampNeg (some (Γ.2.2.2 50))) q1 (8 : Int32).toNatClampNeg (some (Γ.2.2.2 51))) q1 (9 : Int32).toNatClampNeg (some (Γ.2.2.2 52))) (bc - 1) (bs - 10))) : GW Γ l mX2_wordOf h MC MS Q 0 [(0, va_rf (some x)), (1, .int p1)] [] G bc bs := by
  refine g_bipush (v := 10) dX2_wordOf_0 (by decide) ?_
  obtain ⟨k2, F⟩ := F
  obtain ⟨k3, F⟩ := F
  refine h_newq 6 10 (by decide) (by decide) q2461 (by decide +kernel) (by decide) (by decide) (Nat.le_of_ble_eq_true rfl) k2 k3 dX2_wordOf_2 (fun q1 z4 z4' => ?_)
  have F := F q1 z4 z4'
  refine g_dup dX2_wordOf_5 (va_rf_cat _) ?_
  refine g_iconst (v := 0) dX2_wordOf_6 (by decide) ?_
  refine h_ldcwS (tx := "leg") 43 (by decide +kernel) dX2_wordOf_7 ?_
  obtain ⟨c6, F⟩ := F
  obtain ⟨m7, F⟩ := F
  obtain ⟨k8, F⟩ := F
  obtain ⟨k9, F⟩ := F
  refine h_aast 6 rfl c6 (by decide) (by decide) m7 k8 k9 dX2_wordOf_10 ?_
  refine g_dup dX2_wordOf_11 (va_rf_cat _) ?_
  refine g_iconst (v := 1) dX2_wordOf_12 (by decide) ?_
  refine h_ldcwS (tx := "crew") 44 (by decide +kernel) dX2_wordOf_13 ?_
  obtain ⟨k10, F⟩ := F
  obtain ⟨k11, F⟩ := F
  refine h_aast 6 rfl c6 (by decide) (by decide) m7 k10 k11 dX2_wordOf_16 ?_
  refine g_dup dX2_wordOf_17 (va_rf_cat _) ?_
  refine g_iconst (v := 2) dX2_wordOf_18 (by decide) ?_
  refine h_ldcwS (tx := "fly") 45 (by decide +kernel) dX2_wordOf_19 ?_
  obtain ⟨k12, F⟩ := F
  obtain ⟨k13, F⟩ := F
  refine h_aast 6 rfl c6 (by decide) (by decide) m7 k12 k13 dX2_wordOf_22 ?_
  refine g_dup dX2_wordOf_23 (va_rf_cat _) ?_
  refine g_iconst (v := 3) dX2_wordOf_24 (by decide) ?_
  refine h_ldcwS (tx := "ride") 46 (by decide +kernel) dX2_wordOf_25 ?_
  obtain ⟨k14, F⟩ := F
  obtain ⟨k15, F⟩ := F
  refine h_aast 6 rfl c6 (by decide) (by decide) m7 k14 k15 dX2_wordOf_28 ?_
  refine g_dup dX2_wordOf_29 (va_rf_cat _) ?_
  refine g_iconst (v := 4) dX2_wordOf_30 (by decide) ?_
  refine h_ldcwS (tx := "drop") 47 (by decide +kernel) dX2_wordOf_31 ?_
  obtain ⟨k16, F⟩ := F
  obtain ⟨k17, F⟩ := F
  refine h_aast 6 rfl c6 (by decide) (by decide) m7 k16 k17 dX2_wordOf_34 ?_
  refine g_dup dX2_wordOf_35 (va_rf_cat _) ?_
  refine g_iconst (v := 5) dX2_wordOf_36 (by decide) ?_
  refine h_ldcwS (tx := "late") 48 (by decide +kernel) dX2_wordOf_37 ?_
  obtain ⟨k18, F⟩ := F
  obtain ⟨k19, F⟩ := F
  refine h_aast 6 rfl c6 (by decide) (by decide) m7 k18 k19 dX2_wordOf_40 ?_
  refine g_dup dX2_wordOf_41 (va_rf_cat _) ?_
  refine g_bipush (v := 6) dX2_wordOf_42 (by decide) ?_
  refine h_ldcwS (tx := "cancel") 49 (by decide +kernel) dX2_wordOf_44 ?_
  obtain ⟨k20, F⟩ := F
  obtain ⟨k21, F⟩ := F
  refine h_aast 6 rfl c6 (by decide) (by decide) m7 k20 k21 dX2_wordOf_47 ?_
  refine g_dup dX2_wordOf_48 (va_rf_cat _) ?_
  refine g_bipush (v := 7) dX2_wordOf_49 (by decide) ?_
  refine h_ldcwS (tx := "rule") 50 (by decide +kernel) dX2_wordOf_51 ?_
  obtain ⟨k22, F⟩ := F
  obtain ⟨k23, F⟩ := F
  refine h_aast 6 rfl c6 (by decide) (by decide) m7 k22 k23 dX2_wordOf_54 ?_
  refine g_dup dX2_wordOf_55 (va_rf_cat _) ?_
  refine g_bipush (v := 8) dX2_wordOf_56 (by decide) ?_
  refine h_ldcwS (tx := "pair") 51 (by decide +kernel) dX2_wordOf_58 ?_
  obtain ⟨k24, F⟩ := F
  obtain ⟨k25, F⟩ := F
  refine h_aast 6 rfl c6 (by decide) (by decide) m7 k24 k25 dX2_wordOf_61 ?_
  refine g_dup dX2_wordOf_62 (va_rf_cat _) ?_
  refine g_bipush (v := 9) dX2_wordOf_63 (by decide) ?_
  refine h_ldcwS (tx := "repair") 52 (by decide +kernel) dX2_wordOf_65 ?_
  obtain ⟨k26, F⟩ := F
  obtain ⟨k27, F⟩ := F
  refine h_aast 6 rfl c6 (by decide) (by decide) m7 k26 k27 dX2_wordOf_68 ?_
  refine s_astore_n (lv' := [(0, va_rf (some x)), (1, .int p1), (2, va_rf (some q1))]) (cat_R (cat_I cat_nil)) dX2_wordOf_69 rfl (by decide) rfl [1, 2, 0] rfl ?_
  refine g_iconst (v := (-1)) dX2_wordOf_70 (by decide) ?_
  refine s_istore_n (lv' := [(0, va_rf (some x)), (1, .int p1), (2, va_rf (some q1)), (3, .int (-1))]) (cat_R (cat_I (cat_R cat_nil))) dX2_wordOf_71 rfl (by decide) rfl [1, 2, 3, 0] rfl ?_
  refine g_iconst (v := 0) dX2_wordOf_72 (by decide) ?_
  refine s_istore (lv' := [(0, va_rf (some x)), (1, .int p1), (2, va_rf (some q1)), (3, .int (-1)), (4, .int 0)]) (cat_R (cat_I (cat_R (cat_I cat_nil)))) dX2_wordOf_73 (by decide) rfl [1, 2, 3, 4, 0] rfl ?_
  exact F
theorem rX2_wordOf_75 {Γ : GE} {l : Launch} {h MC MS : Nat} {Q : Option Value → GH → Prop} {bc bs : Nat} {G : GH} (x : Nat) (p1 : Int32) (p2 : Option Nat) (p3 : Int32) (p4 : Int32) (F : (∃ a1, p2 = some a1 ∧ gC G a1 = kA 6 ∧ (((nI (gL G a1)) ≤ p4 → (Q (some (.int p3)) G)) ∧ (¬ (nI (gL G a1)) ≤ p4 → (gM G a1 = true ∧ vp_in p4 (gL G a1) ∧ gC G x = kO 1 ∧ cI Γ l h mX2_isWord [.ref x, .int p1, va_rf (gR G a1 p4.toNatClampNeg)] G bc bs fun r6 Gr6 br6 sr6 => ((r6 = 0 → (GW Γ l mX2_wordOf h MC MS Q 75 [(0, va_rf (some x)), (1, .int p1), (2, va_rf p2), (3, .int p3), (4, .int (p4 + 1))] [] Gr6 br6 sr6)) ∧ (¬ r6 = 0 → (GW Γ l mX2_wordOf h MC MS Q 75 [(0, va_rf (some x)), (1, .int p1), (2, va_rf p2), (3, .int p4), (4, .int (p4 + 1))] [] Gr6 br6 sr6)))))))) : GW Γ l mX2_wordOf h MC MS Q 75 [(0, va_rf (some x)), (1, .int p1), (2, va_rf p2), (3, .int p3), (4, .int p4)] [] G bc bs := by
  refine g_iload dX2_wordOf_75 4 rfl ?_
  refine g_aload_n dX2_wordOf_77 rfl 2 rfl ?_
  obtain ⟨a1, e2, F⟩ := F
  obtain ⟨c3, F⟩ := F
  refine h_alen 6 e2 c3 (by decide) dX2_wordOf_78 ?_
  refine g_icmp_ge 107 dX2_wordOf_79 (by decide) (fun h10 => ?_) (fun h10 => ?_)
  · have F := F.1 h10
    refine g_iload_n dX2_wordOf_107 rfl 3 rfl ?_
    exact g_iret rfl dX2_wordOf_108 F
  · have F := F.2 h10
    refine g_aload_n dX2_wordOf_82 rfl 0 rfl ?_
    refine g_iload_n dX2_wordOf_83 rfl 1 rfl ?_
    refine g_aload_n dX2_wordOf_84 rfl 2 rfl ?_
    refine g_iload dX2_wordOf_85 4 rfl ?_
    obtain ⟨m4, F⟩ := F
    obtain ⟨k5, F⟩ := F
    refine h_aald 6 e2 c3 (by decide) (by decide) m4 k5 dX2_wordOf_87 ?_
    obtain ⟨c7, F⟩ := F
    refine h_callVI (ci := 1) (C := RX2) (T := TX2) (N := 30) (As := [.int p1, va_rf (gR G a1 p4.toNatClampNeg)]) (rest := []) F 2 rfl rfl (lw_V q2472 q2474 qs104 q117 q2475) vm_X2_isWord (by decide) rfl c7 rfl (room_of sc_nil (Nat.le_of_ble_eq_true rfl)) dX2_wordOf_88 (fun r6 Gr6 br6 sr6 F => ?_)
    refine g_if_eq 99 dX2_wordOf_91 (by decide) (fun h9 => ?_) (fun h9 => ?_)
    · have F := F.1 h9
      refine g_iload_n dX2_wordOf_99 rfl 3 rfl ?_
      refine s_istore_n (lv' := [(0, va_rf (some x)), (1, .int p1), (2, va_rf p2), (3, .int p3), (4, .int p4)]) (cat_R (cat_I (cat_R (cat_I (cat_I cat_nil))))) dX2_wordOf_100 rfl (by decide) rfl [1, 2, 3, 0, 4] rfl ?_
      refine s_iinc (v := (p4 + 1)) (lv' := [(0, va_rf (some x)), (1, .int p1), (2, va_rf p2), (3, .int p3), (4, .int (p4 + 1))]) (cat_R (cat_I (cat_R (cat_I (cat_I cat_nil))))) dX2_wordOf_101 (k0 := 4) rfl rfl (by decide) rfl [1, 2, 3, 4, 0] rfl ?_
      refine g_goto 75 dX2_wordOf_104 (by decide) ?_
      exact F
    · have F := F.2 h9
      refine g_iload dX2_wordOf_94 4 rfl ?_
      refine g_goto 100 dX2_wordOf_96 (by decide) ?_
      refine s_istore_n (lv' := [(0, va_rf (some x)), (1, .int p1), (2, va_rf p2), (3, .int p4), (4, .int p4)]) (cat_R (cat_I (cat_R (cat_I (cat_I cat_nil))))) dX2_wordOf_100 rfl (by decide) rfl [1, 2, 3, 0, 4] rfl ?_
      refine s_iinc (v := (p4 + 1)) (lv' := [(0, va_rf (some x)), (1, .int p1), (2, va_rf p2), (3, .int p4), (4, .int (p4 + 1))]) (cat_R (cat_I (cat_R (cat_I (cat_I cat_nil))))) dX2_wordOf_101 (k0 := 4) rfl rfl (by decide) rfl [1, 2, 3, 4, 0] rfl ?_
      refine g_goto 75 dX2_wordOf_104 (by decide) ?_
      exact F
theorem rX2_isWord_0 {Γ : GE} {l : Launch} {h MC MS : Nat} {Q : Option Value → GH → Prop} {bc bs : Nat} {G : GH} (x : Nat) (p1 : Int32) (p2 : Option Nat) (F : (gC G x = kO 1 ∧ ∃ a3, p2 = some a3 ∧ gC G a3 = kO 15 ∧ cI Γ l h mJ5_length [.ref a3] G bc bs fun r2 Gr2 br2 sr2 => ((¬ ((gI G x 27) - p1) = r2 → (GW Γ l mX2_isWord h MC MS Q 22 [(0, va_rf (some x)), (1, .int p1), (2, va_rf p2), (3, .int 0), (4, .int 0)] [] Gr2 br2 sr2)) ∧ (((gI G x 27) - p1) = r2 → (GW Γ l mX2_isWord h MC MS Q 22 [(0, va_rf (some x)), (1, .int p1), (2, va_rf p2), (3, .int 1), (4, .int 0)] [] Gr2 br2 sr2))))) : GW Γ l mX2_isWord h MC MS Q 0 [(0, va_rf (some x)), (1, .int p1), (2, va_rf p2)] [] G bc bs := by
  refine g_aload_n dX2_isWord_0 rfl 0 rfl ?_
  obtain ⟨c1, F⟩ := F
  refine h_get (v := .int (gI G x 27)) 1 27 (C := RX2) (T := TX2) (N := 30) rfl in_X2 (by decide) q2016 (Or.inl rfl) rfl c1 rfl dX2_isWord_1 ?_
  refine g_iload_n dX2_isWord_4 rfl 1 rfl ?_
  refine g_isub dX2_isWord_5 ?_
  refine g_aload_n dX2_isWord_6 rfl 2 rfl ?_
  obtain ⟨a3, e4, F⟩ := F
  obtain ⟨c5, F⟩ := F
  refine h_callVI (ci := 15) (C := RJ5) (T := TJ5) (N := 4) (As := []) (rest := [.int ((gI G x 27) - p1)]) F 0 rfl rfl (lw_V q2439 q1588 q1589 q115 q1590) vm_J5_length (by decide) e4 c5 rfl (room_of (sc_I sc_nil) (Nat.le_of_ble_eq_true rfl)) dX2_isWord_7 (fun r2 Gr2 br2 sr2 F => ?_)
  refine g_icmp_ne 17 dX2_isWord_10 (by decide) (fun h7 => ?_) (fun h7 => ?_)
  · have F := F.1 h7
    refine g_iconst (v := 0) dX2_isWord_17 (by decide) ?_
    refine s_istore_n (lv' := [(0, va_rf (some x)), (1, .int p1), (2, va_rf p2), (3, .int 0)]) (cat_R (cat_I (cat_R cat_nil))) dX2_isWord_18 rfl (by decide) rfl [1, 2, 3, 0] rfl ?_
    refine g_iconst (v := 0) dX2_isWord_19 (by decide) ?_
    refine s_istore (lv' := [(0, va_rf (some x)), (1, .int p1), (2, va_rf p2), (3, .int 0), (4, .int 0)]) (cat_R (cat_I (cat_R (cat_I cat_nil)))) dX2_isWord_20 (by decide) rfl [1, 2, 3, 4, 0] rfl ?_
    exact F
  · have F := F.2 h7
    refine g_iconst (v := 1) dX2_isWord_13 (by decide) ?_
    refine g_goto 18 dX2_isWord_14 (by decide) ?_
    refine s_istore_n (lv' := [(0, va_rf (some x)), (1, .int p1), (2, va_rf p2), (3, .int 1)]) (cat_R (cat_I (cat_R cat_nil))) dX2_isWord_18 rfl (by decide) rfl [1, 2, 3, 0] rfl ?_
    refine g_iconst (v := 0) dX2_isWord_19 (by decide) ?_
    refine s_istore (lv' := [(0, va_rf (some x)), (1, .int p1), (2, va_rf p2), (3, .int 1), (4, .int 0)]) (cat_R (cat_I (cat_R (cat_I cat_nil)))) dX2_isWord_20 (by decide) rfl [1, 2, 3, 4, 0] rfl ?_
    exact F
theorem rX2_isWord_22 {Γ : GE} {l : Launch} {h MC MS : Nat} {Q : Option Value → GH → Prop} {bc bs : Nat} {G : GH} (x : Nat) (p1 : Int32) (p2 : Option Nat) (p3 : Int32) (p4 : Int32) (F : (∃ a2, p2 = some a2 ∧ gC G a2 = kO 15 ∧ cI Γ l h mJ5_length [.ref a2] G bc bs fun r1 Gr1 br1 sr1 => ((r1 ≤ p4 → (narrow .boolean (.int p3) = .int p3 ∧ Q (some (.int p3)) Gr1)) ∧ (¬ r1 ≤ p4 → ((p3 = 0 → (narrow .boolean (.int p3) = .int p3 ∧ Q (some (.int p3)) Gr1)) ∧ (¬ p3 = 0 → (gC Gr1 x = kO 1 ∧ ∃ a9, (gR Gr1 x 25) = some a9 ∧ gC Gr1 a9 = kA 3 ∧ vp_in (p1 + p4) (gL Gr1 a9) ∧ gC Gr1 a2 = kO 15 ∧ cI Γ l h mJ5_charAt [.ref a2, .int p4] Gr1 br1 sr1 fun r13 Gr13 br13 sr13 => ((¬ (gI Gr1 a9 (p1 + p4).toNatClampNeg) = r13 → (GW Γ l mX2_isWord h MC MS Q 22 [(0, va_rf (some x)), (1, .int p1), (2, va_rf p2), (3, .int 0), (4, .int (p4 + 1))] [] Gr13 br13 sr13)) ∧ ((gI Gr1 a9 (p1 + p4).toNatClampNeg) = r13 → (GW Γ l mX2_isWord h MC MS Q 22 [(0, va_rf (some x)), (1, .int p1), (2, va_rf p2), (3, .int 1), (4, .int (p4 + 1))] [] Gr13 br13 sr13)))))))))) : GW Γ l mX2_isWord h MC MS Q 22 [(0, va_rf (some x)), (1, .int p1), (2, va_rf p2), (3, .int p3), (4, .int p4)] [] G bc bs := by
  refine g_iload dX2_isWord_22 4 rfl ?_
  refine g_aload_n dX2_isWord_24 rfl 2 rfl ?_
  obtain ⟨a2, e3, F⟩ := F
  obtain ⟨c4, F⟩ := F
  refine h_callVI (ci := 15) (C := RJ5) (T := TJ5) (N := 4) (As := []) (rest := [.int p4]) F 0 rfl rfl (lw_V q2439 q1588 q1589 q115 q1590) vm_J5_length (by decide) e3 c4 rfl (room_of (sc_I sc_nil) (Nat.le_of_ble_eq_true rfl)) dX2_isWord_25 (fun r1 Gr1 br1 sr1 F => ?_)
  refine g_icmp_ge 65 dX2_isWord_28 (by decide) (fun h18 => ?_) (fun h18 => ?_)
  · have F := F.1 h18
    refine g_iload_n dX2_isWord_65 rfl 3 rfl ?_
    obtain ⟨k6, F⟩ := F
    exact g_zret rfl k6 dX2_isWord_66 F
  · have F := F.2 h18
    refine g_iload_n dX2_isWord_31 rfl 3 rfl ?_
    refine g_if_eq 65 dX2_isWord_32 (by decide) (fun h17 => ?_) (fun h17 => ?_)
    · have F := F.1 h17
      refine g_iload_n dX2_isWord_65 rfl 3 rfl ?_
      obtain ⟨k7, F⟩ := F
      exact g_zret rfl k7 dX2_isWord_66 F
    · have F := F.2 h17
      refine g_aload_n dX2_isWord_35 rfl 0 rfl ?_
      obtain ⟨c8, F⟩ := F
      refine h_get (v := va_rf (gR Gr1 x 25)) 1 25 (C := RX2) (T := TX2) (N := 30) rfl in_X2 (by decide) q2014 (Or.inl rfl) rfl c8 rfl dX2_isWord_36 ?_
      refine g_iload_n dX2_isWord_39 rfl 1 rfl ?_
      refine g_iload dX2_isWord_40 4 rfl ?_
      refine g_iadd dX2_isWord_42 ?_
      obtain ⟨a9, e10, F⟩ := F
      obtain ⟨c11, F⟩ := F
      obtain ⟨k12, F⟩ := F
      refine h_cald e10 c11 k12 dX2_isWord_43 ?_
      refine g_aload_n dX2_isWord_44 rfl 2 rfl ?_
      refine g_iload dX2_isWord_45 4 rfl ?_
      obtain ⟨c14, F⟩ := F
      refine h_callVI (ci := 15) (C := RJ5) (T := TJ5) (N := 4) (As := [.int p4]) (rest := [.int (gI Gr1 a9 (p1 + p4).toNatClampNeg)]) F 1 rfl rfl (lw_V q2440 q1773 q1774 q115 q1775) vm_J5_charAt (by decide) e3 c14 rfl (room_of (sc_I sc_nil) (Nat.le_of_ble_eq_true rfl)) dX2_isWord_47 (fun r13 Gr13 br13 sr13 F => ?_)
      refine g_icmp_ne 57 dX2_isWord_50 (by decide) (fun h16 => ?_) (fun h16 => ?_)
      · have F := F.1 h16
        refine g_iconst (v := 0) dX2_isWord_57 (by decide) ?_
        refine s_istore_n (lv' := [(0, va_rf (some x)), (1, .int p1), (2, va_rf p2), (3, .int 0), (4, .int p4)]) (cat_R (cat_I (cat_R (cat_I (cat_I cat_nil))))) dX2_isWord_58 rfl (by decide) rfl [1, 2, 3, 0, 4] rfl ?_
        refine s_iinc (v := (p4 + 1)) (lv' := [(0, va_rf (some x)), (1, .int p1), (2, va_rf p2), (3, .int 0), (4, .int (p4 + 1))]) (cat_R (cat_I (cat_R (cat_I (cat_I cat_nil))))) dX2_isWord_59 (k0 := 4) rfl rfl (by decide) rfl [1, 2, 3, 4, 0] rfl ?_
        refine g_goto 22 dX2_isWord_62 (by decide) ?_
        exact F
      · have F := F.2 h16
        refine g_iconst (v := 1) dX2_isWord_53 (by decide) ?_
        refine g_goto 58 dX2_isWord_54 (by decide) ?_
        refine s_istore_n (lv' := [(0, va_rf (some x)), (1, .int p1), (2, va_rf p2), (3, .int 1), (4, .int p4)]) (cat_R (cat_I (cat_R (cat_I (cat_I cat_nil))))) dX2_isWord_58 rfl (by decide) rfl [1, 2, 3, 0, 4] rfl ?_
        refine s_iinc (v := (p4 + 1)) (lv' := [(0, va_rf (some x)), (1, .int p1), (2, va_rf p2), (3, .int 1), (4, .int (p4 + 1))]) (cat_R (cat_I (cat_R (cat_I (cat_I cat_nil))))) dX2_isWord_59 (k0 := 4) rfl rfl (by decide) rfl [1, 2, 3, 4, 0] rfl ?_
        refine g_goto 22 dX2_isWord_62 (by decide) ?_
        exact F
theorem rX2_readNumber_0 {Γ : GE} {l : Launch} {h MC MS : Nat} {Q : Option Value → GH → Prop} {bc bs : Nat} {G : GH} (x : Nat) (p1 : Int32) (F : (gC G x = kO 1 ∧ cI Γ l h mX2_here [.ref x] G bc bs fun r1 Gr1 br1 sr1 => ((r1 = 32 → (gC Gr1 x = kO 1 ∧ gM Gr1 x = true ∧ ∃ a6, (gR (sI Gr1 x 27 ((gI Gr1 x 27) + 1)) x 29) = some a6 ∧ gC (sI Gr1 x 27 ((gI Gr1 x 27) + 1)) a6 = kA 0 ∧ gM (sI Gr1 x 27 ((gI Gr1 x 27) + 1)) a6 = true ∧ vp_in p1 (gL (sI Gr1 x 27 ((gI Gr1 x 27) + 1)) a6) ∧ GW Γ l mX2_readNumber h MC MS Q 34 [(0, va_rf (some x)), (1, .int p1), (2, .int 0)] [] (sI (sI Gr1 x 27 ((gI Gr1 x 27) + 1)) a6 p1.toNatClampNeg 0) br1 sr1)) ∧ (¬ r1 = 32 → (gC Gr1 x = kO 1 ∧ gM Gr1 x = true ∧ Q none (sI Gr1 x 28 1)))))) : GW Γ l mX2_readNumber h MC MS Q 0 [(0, va_rf (some x)), (1, .int p1)] [] G bc bs := by
  refine g_aload_n dX2_readNumber_0 rfl 0 rfl ?_
  obtain ⟨c2, F⟩ := F
  refine h_callVI (ci := 1) (C := RX2) (T := TX2) (N := 30) (As := []) (rest := []) F 0 rfl rfl (lw_V q2453 q2455 qs102 q117 q2456) vm_X2_here (by decide) rfl c2 rfl (room_of sc_nil (Nat.le_of_ble_eq_true rfl)) dX2_readNumber_1 (fun r1 Gr1 br1 sr1 F => ?_)
  refine g_bipush (v := 32) dX2_readNumber_4 (by decide) ?_
  refine g_icmp_eq 15 dX2_readNumber_6 (by decide) (fun h13 => ?_) (fun h13 => ?_)
  · have F := F.1 h13
    refine g_aload_n dX2_readNumber_15 rfl 0 rfl ?_
    refine g_dup dX2_readNumber_16 (va_rf_cat _) ?_
    obtain ⟨c4, F⟩ := F
    refine h_get (v := .int (gI Gr1 x 27)) 1 27 (C := RX2) (T := TX2) (N := 30) rfl in_X2 (by decide) q2016 (Or.inl rfl) rfl c4 rfl dX2_readNumber_17 ?_
    refine g_iconst (v := 1) dX2_readNumber_20 (by decide) ?_
    refine g_iadd dX2_readNumber_21 ?_
    obtain ⟨m5, F⟩ := F
    refine h_putI (mi := mX2_readNumber) 1 27 (C := RX2) (T := TX2) (N := 30) rfl in_X2 tyX2_ok nmX2 (by decide) q2016 (Or.inl rfl) (Or.inl rfl) rfl rfl c4 m5 rfl rfl dX2_readNumber_22 ?_
    refine g_iconst (v := 0) dX2_readNumber_25 (by decide) ?_
    refine s_istore_n (lv' := [(0, va_rf (some x)), (1, .int p1), (2, .int 0)]) (cat_R (cat_I cat_nil)) dX2_readNumber_26 rfl (by decide) rfl [1, 2, 0] rfl ?_
    refine g_aload_n dX2_readNumber_27 rfl 0 rfl ?_
    refine h_get (v := va_rf (gR (sI Gr1 x 27 ((gI Gr1 x 27) + 1)) x 29)) 1 29 (C := RX2) (T := TX2) (N := 30) rfl in_X2 (by decide) q2018 (Or.inl rfl) rfl c4 rfl dX2_readNumber_28 ?_
    refine g_iload_n dX2_readNumber_31 rfl 1 rfl ?_
    refine g_iconst (v := 0) dX2_readNumber_32 (by decide) ?_
    obtain ⟨a6, e7, F⟩ := F
    obtain ⟨c8, F⟩ := F
    obtain ⟨m9, F⟩ := F
    obtain ⟨k10, F⟩ := F
    refine h_iast e7 c8 m9 k10 dX2_readNumber_33 ?_
    exact F
  · have F := F.2 h13
    refine g_aload_n dX2_readNumber_9 rfl 0 rfl ?_
    refine g_iconst (v := 1) dX2_readNumber_10 (by decide) ?_
    obtain ⟨c11, F⟩ := F
    obtain ⟨m12, F⟩ := F
    refine h_putI (mi := mX2_readNumber) 1 28 (C := RX2) (T := TX2) (N := 30) rfl in_X2 tyX2_ok nmX2 (by decide) q2017 (Or.inl rfl) (Or.inl rfl) rfl rfl c11 m12 rfl rfl dX2_readNumber_11 ?_
    exact g_vret rfl dX2_readNumber_14 F
theorem rX2_readNumber_34 {Γ : GE} {l : Launch} {h MC MS : Nat} {Q : Option Value → GH → Prop} {bc bs : Nat} {G : GH} (x : Nat) (p1 : Int32) (p2 : Int32) (F : (((4 : Int32) ≤ p2 → ((¬ p2 = 0 → (gC G x = kO 1 ∧ gM G x = true ∧ Q none (sI G x 28 0))) ∧ (p2 = 0 → (gC G x = kO 1 ∧ gM G x = true ∧ Q none (sI G x 28 1))))) ∧ (¬ (4 : Int32) ≤ p2 → (gC G x = kO 1 ∧ cI Γ l h mX2_here [.ref x] G bc bs fun r6 Gr6 br6 sr6 => cI Γ l h mX2_in [.int r6, .int 48, .int 57] Gr6 br6 sr6 fun r9 Gr9 br9 sr9 => ((r9 = 0 → ((¬ p2 = 0 → (gC Gr9 x = kO 1 ∧ gM Gr9 x = true ∧ Q none (sI Gr9 x 28 0))) ∧ (p2 = 0 → (gC Gr9 x = kO 1 ∧ gM Gr9 x = true ∧ Q none (sI Gr9 x 28 1))))) ∧ (¬ r9 = 0 → (gC Gr9 x = kO 1 ∧ ∃ a17, (gR Gr9 x 29) = some a17 ∧ gC Gr9 a17 = kA 0 ∧ vp_in p1 (gL Gr9 a17) ∧ cI Γ l h mX2_here [.ref x] Gr9 br9 sr9 fun r21 Gr21 br21 sr21 => gC Gr21 a17 = kA 0 ∧ gM Gr21 a17 = true ∧ vp_in p1 (gL Gr21 a17) ∧ gC (sI Gr21 a17 p1.toNatClampNeg (((10 * (gI Gr9 a17 p1.toNatClampNeg)) + r21) - 48)) x = kO 1 ∧ gM (sI Gr21 a17 p1.toNatClampNeg (((10 * (gI Gr9 a17 p1.toNatClampNeg)) + r21) - 48)) x = true ∧ GW Γ l mX2_readNumber h MC MS Q 34 [(0, va_rf (some x)), (1, .int p1), (2, .int (p2 + 1))] [] (sI (sI Gr21 a17 p1.toNatClampNeg (((10 * (gI Gr9 a17 p1.toNatClampNeg)) + r21) - 48)) x 27 ((gI (sI Gr21 a17 p1.toNatClampNeg (((10 * (gI Gr9 a17 p1.toNatClampNeg)) + r21) - 48)) x 27) + 1)) br21 sr21))))))) : GW Γ l mX2_readNumber h MC MS Q 34 [(0, va_rf (some x)), (1, .int p1), (2, .int p2)] [] G bc bs := by
  refine g_iload_n dX2_readNumber_34 rfl 2 rfl ?_
  refine g_iconst (v := 4) dX2_readNumber_35 (by decide) ?_
  refine g_icmp_ge 92 dX2_readNumber_36 (by decide) (fun h29 => ?_) (fun h29 => ?_)
  · have F := F.1 h29
    refine g_aload_n dX2_readNumber_92 rfl 0 rfl ?_
    refine g_iload_n dX2_readNumber_93 rfl 2 rfl ?_
    refine g_if_ne 101 dX2_readNumber_94 (by decide) (fun h5 => ?_) (fun h5 => ?_)
    · have F := F.1 h5
      refine g_iconst (v := 0) dX2_readNumber_101 (by decide) ?_
      obtain ⟨c1, F⟩ := F
      obtain ⟨m2, F⟩ := F
      refine h_putI (mi := mX2_readNumber) 1 28 (C := RX2) (T := TX2) (N := 30) rfl in_X2 tyX2_ok nmX2 (by decide) q2017 (Or.inl rfl) (Or.inl rfl) rfl rfl c1 m2 rfl rfl dX2_readNumber_102 ?_
      exact g_vret rfl dX2_readNumber_105 F
    · have F := F.2 h5
      refine g_iconst (v := 1) dX2_readNumber_97 (by decide) ?_
      refine g_goto 102 dX2_readNumber_98 (by decide) ?_
      obtain ⟨c3, F⟩ := F
      obtain ⟨m4, F⟩ := F
      refine h_putI (mi := mX2_readNumber) 1 28 (C := RX2) (T := TX2) (N := 30) rfl in_X2 tyX2_ok nmX2 (by decide) q2017 (Or.inl rfl) (Or.inl rfl) rfl rfl c3 m4 rfl rfl dX2_readNumber_102 ?_
      exact g_vret rfl dX2_readNumber_105 F
  · have F := F.2 h29
    refine g_aload_n dX2_readNumber_39 rfl 0 rfl ?_
    obtain ⟨c7, F⟩ := F
    refine h_callVI (ci := 1) (C := RX2) (T := TX2) (N := 30) (As := []) (rest := []) F 0 rfl rfl (lw_V q2453 q2455 qs102 q117 q2456) vm_X2_here (by decide) rfl c7 rfl (room_of sc_nil (Nat.le_of_ble_eq_true rfl)) dX2_readNumber_40 (fun r6 Gr6 br6 sr6 F => ?_)
    refine g_bipush (v := 48) dX2_readNumber_43 (by decide) ?_
    refine g_bipush (v := 57) dX2_readNumber_45 (by decide) ?_
    refine h_callSI (As := [.int r6, .int 48, .int 57]) (rest := []) F 3 rfl (lw_S q2085 q2086 q117 q2087) vm_X2_in.2 (by decide) rfl (room_of sc_nil (Nat.le_of_ble_eq_true rfl)) dX2_readNumber_47 (fun r9 Gr9 br9 sr9 F => ?_)
    refine g_if_eq 92 dX2_readNumber_50 (by decide) (fun h28 => ?_) (fun h28 => ?_)
    · have F := F.1 h28
      refine g_aload_n dX2_readNumber_92 rfl 0 rfl ?_
      refine g_iload_n dX2_readNumber_93 rfl 2 rfl ?_
      refine g_if_ne 101 dX2_readNumber_94 (by decide) (fun h15 => ?_) (fun h15 => ?_)
      · have F := F.1 h15
        refine g_iconst (v := 0) dX2_readNumber_101 (by decide) ?_
        obtain ⟨c11, F⟩ := F
        obtain ⟨m12, F⟩ := F
        refine h_putI (mi := mX2_readNumber) 1 28 (C := RX2) (T := TX2) (N := 30) rfl in_X2 tyX2_ok nmX2 (by decide) q2017 (Or.inl rfl) (Or.inl rfl) rfl rfl c11 m12 rfl rfl dX2_readNumber_102 ?_
        exact g_vret rfl dX2_readNumber_105 F
      · have F := F.2 h15
        refine g_iconst (v := 1) dX2_readNumber_97 (by decide) ?_
        refine g_goto 102 dX2_readNumber_98 (by decide) ?_
        obtain ⟨c13, F⟩ := F
        obtain ⟨m14, F⟩ := F
        refine h_putI (mi := mX2_readNumber) 1 28 (C := RX2) (T := TX2) (N := 30) rfl in_X2 tyX2_ok nmX2 (by decide) q2017 (Or.inl rfl) (Or.inl rfl) rfl rfl c13 m14 rfl rfl dX2_readNumber_102 ?_
        exact g_vret rfl dX2_readNumber_105 F
    · have F := F.2 h28
      refine g_aload_n dX2_readNumber_53 rfl 0 rfl ?_
      obtain ⟨c16, F⟩ := F
      refine h_get (v := va_rf (gR Gr9 x 29)) 1 29 (C := RX2) (T := TX2) (N := 30) rfl in_X2 (by decide) q2018 (Or.inl rfl) rfl c16 rfl dX2_readNumber_54 ?_
      refine g_iload_n dX2_readNumber_57 rfl 1 rfl ?_
      refine g_bipush (v := 10) dX2_readNumber_58 (by decide) ?_
      refine g_aload_n dX2_readNumber_60 rfl 0 rfl ?_
      refine h_get (v := va_rf (gR Gr9 x 29)) 1 29 (C := RX2) (T := TX2) (N := 30) rfl in_X2 (by decide) q2018 (Or.inl rfl) rfl c16 rfl dX2_readNumber_61 ?_
      refine g_iload_n dX2_readNumber_64 rfl 1 rfl ?_
      obtain ⟨a17, e18, F⟩ := F
      obtain ⟨c19, F⟩ := F
      obtain ⟨k20, F⟩ := F
      refine h_iald e18 c19 k20 dX2_readNumber_65 ?_
      refine g_imul dX2_readNumber_66 ?_
      refine g_aload_n dX2_readNumber_67 rfl 0 rfl ?_
      refine h_callVI (ci := 1) (C := RX2) (T := TX2) (N := 30) (As := []) (rest := [.int (10 * (gI Gr9 a17 p1.toNatClampNeg)), .int p1, va_rf (gR Gr9 x 29)]) F 0 rfl rfl (lw_V q2453 q2455 qs102 q117 q2456) vm_X2_here (by decide) rfl c16 rfl (room_of (sc_I (sc_I (sc_R sc_nil))) (Nat.le_of_ble_eq_true rfl)) dX2_readNumber_68 (fun r21 Gr21 br21 sr21 F => ?_)
      refine g_iadd dX2_readNumber_71 ?_
      refine g_bipush (v := 48) dX2_readNumber_72 (by decide) ?_
      refine g_isub dX2_readNumber_74 ?_
      obtain ⟨c23, F⟩ := F
      obtain ⟨m24, F⟩ := F
      obtain ⟨k25, F⟩ := F
      refine h_iast e18 c23 m24 k25 dX2_readNumber_75 ?_
      refine g_aload_n dX2_readNumber_76 rfl 0 rfl ?_
      refine g_dup dX2_readNumber_77 (va_rf_cat _) ?_
      obtain ⟨c26, F⟩ := F
      refine h_get (v := .int (gI (sI Gr21 a17 p1.toNatClampNeg (((10 * (gI Gr9 a17 p1.toNatClampNeg)) + r21) - 48)) x 27)) 1 27 (C := RX2) (T := TX2) (N := 30) rfl in_X2 (by decide) q2016 (Or.inl rfl) rfl c26 rfl dX2_readNumber_78 ?_
      refine g_iconst (v := 1) dX2_readNumber_81 (by decide) ?_
      refine g_iadd dX2_readNumber_82 ?_
      obtain ⟨m27, F⟩ := F
      refine h_putI (mi := mX2_readNumber) 1 27 (C := RX2) (T := TX2) (N := 30) rfl in_X2 tyX2_ok nmX2 (by decide) q2016 (Or.inl rfl) (Or.inl rfl) rfl rfl c26 m27 rfl rfl dX2_readNumber_83 ?_
      refine s_iinc (v := (p2 + 1)) (lv' := [(0, va_rf (some x)), (1, .int p1), (2, .int (p2 + 1))]) (cat_R (cat_I (cat_I cat_nil))) dX2_readNumber_86 (k0 := 2) rfl rfl (by decide) rfl [1, 2, 0] rfl ?_
      refine g_goto 34 dX2_readNumber_89 (by decide) ?_
      exact F
theorem rX2_perform_0 {Γ : GE} {l : Launch} {h MC MS : Nat} {Q : Option Value → GH → Prop} {bc bs : Nat} {G : GH} (x : Nat) (p1 : Int32) (F : (gC G x = kO 1 ∧ ∃ a2, (gR G x 29) = some a2 ∧ gC G a2 = kA 0 ∧ vp_in 0 (gL G a2) ∧ vp_in 1 (gL G a2) ∧ ((p1 = 0 → (vp_in 2 (gL G a2) ∧ vp_in 3 (gL G a2) ∧ cI Γ l h mX2_addLeg [.ref x, .int (gI G a2 (0 : Int32).toNatClampNeg), .int (gI G a2 (1 : Int32).toNatClampNeg), .int (gI G a2 (2 : Int32).toNatClampNeg), .int (gI G a2 (3 : Int32).toNatClampNeg)] G bc bs fun r10 Gr10 br10 sr10 => Q (some (.int r10)) Gr10)) ∧ (p1 = 1 → (cI Γ l h mX2_addCrew [.ref x, .int (gI G a2 (0 : Int32).toNatClampNeg)] G bc bs fun r12 Gr12 br12 sr12 => Q (some (.int r12)) Gr12)) ∧ (p1 = 2 → (cI Γ l h mX2_fly [.ref x, .int (gI G a2 (0 : Int32).toNatClampNeg), .int (gI G a2 (1 : Int32).toNatClampNeg)] G bc bs fun r14 Gr14 br14 sr14 => Q (some (.int r14)) Gr14)) ∧ (p1 = 3 → (cI Γ l h mX2_ride [.ref x, .int (gI G a2 (0 : Int32).toNatClampNeg), .int (gI G a2 (1 : Int32).toNatClampNeg)] G bc bs fun r16 Gr16 br16 sr16 => Q (some (.int r16)) Gr16)) ∧ (p1 = 4 → (cI Γ l h mX2_drop [.ref x, .int (gI G a2 (0 : Int32).toNatClampNeg), .int (gI G a2 (1 : Int32).toNatClampNeg)] G bc bs fun r18 Gr18 br18 sr18 => Q (some (.int r18)) Gr18)) ∧ (p1 = 5 → (cI Γ l h mX2_delay [.ref x, .int (gI G a2 (0 : Int32).toNatClampNeg), .int (gI G a2 (1 : Int32).toNatClampNeg)] G bc bs fun r20 Gr20 br20 sr20 => Q (some (.int r20)) Gr20)) ∧ (p1 = 6 → (cI Γ l h mX2_cancel [.ref x, .int (gI G a2 (0 : Int32).toNatClampNeg)] G bc bs fun r22 Gr22 br22 sr22 => Q (some (.int r22)) Gr22)) ∧ (p1 = 7 → (cI Γ l h mX2_setRule [.ref x, .int (gI G a2 (0 : Int32).toNatClampNeg), .int (gI G a2 (1 : Int32).toNatClampNeg)] G bc bs fun r24 Gr24 br24 sr24 => Q (some (.int r24)) Gr24)) ∧ (p1 = 8 → (cI Γ l h mX2_pair [.ref x] G bc bs fun r26 Gr26 br26 sr26 => Q (some (.int r26)) Gr26)) ∧ ((p1.toInt < 0 ∨ 8 < p1.toInt) → (cI Γ l h mX2_repair [.ref x] G bc bs fun r28 Gr28 br28 sr28 => Q (some (.int r28)) Gr28))))) : GW Γ l mX2_perform h MC MS Q 0 [(0, va_rf (some x)), (1, .int p1)] [] G bc bs := by
  refine g_aload_n dX2_perform_0 rfl 0 rfl ?_
  obtain ⟨c1, F⟩ := F
  refine h_get (v := va_rf (gR G x 29)) 1 29 (C := RX2) (T := TX2) (N := 30) rfl in_X2 (by decide) q2018 (Or.inl rfl) rfl c1 rfl dX2_perform_1 ?_
  refine g_iconst (v := 0) dX2_perform_4 (by decide) ?_
  obtain ⟨a2, e3, F⟩ := F
  obtain ⟨c4, F⟩ := F
  obtain ⟨k5, F⟩ := F
  refine h_iald e3 c4 k5 dX2_perform_5 ?_
  refine s_istore_n (lv' := [(0, va_rf (some x)), (1, .int p1), (2, .int (gI G a2 (0 : Int32).toNatClampNeg))]) (cat_R (cat_I cat_nil)) dX2_perform_6 rfl (by decide) rfl [1, 2, 0] rfl ?_
  refine g_aload_n dX2_perform_7 rfl 0 rfl ?_
  refine h_get (v := va_rf (gR G x 29)) 1 29 (C := RX2) (T := TX2) (N := 30) rfl in_X2 (by decide) q2018 (Or.inl rfl) rfl c1 rfl dX2_perform_8 ?_
  refine g_iconst (v := 1) dX2_perform_11 (by decide) ?_
  obtain ⟨k6, F⟩ := F
  refine h_iald e3 c4 k6 dX2_perform_12 ?_
  refine s_istore_n (lv' := [(0, va_rf (some x)), (1, .int p1), (2, .int (gI G a2 (0 : Int32).toNatClampNeg)), (3, .int (gI G a2 (1 : Int32).toNatClampNeg))]) (cat_R (cat_I (cat_I cat_nil))) dX2_perform_13 rfl (by decide) rfl [1, 2, 3, 0] rfl ?_
  refine g_iload_n dX2_perform_14 rfl 1 rfl ?_
  by_cases h7 : (p1.toInt < 0 ∨ 8 < p1.toInt)
  · have F := F.2.2.2.2.2.2.2.2.2 h7
    refine h_tout 135 dX2_perform_15 h7 (by decide) ?_
    refine g_aload_n dX2_perform_135 rfl 0 rfl ?_
    refine h_callVI (ci := 1) (C := RX2) (T := TX2) (N := 30) (As := []) (rest := []) F 0 rfl rfl (lw_V q2493 q2386 q2387 q117 q2388) vm_X2_repair (by decide) rfl c1 rfl (room_of sc_nil (Nat.le_of_ble_eq_true rfl)) dX2_perform_136 (fun r28 Gr28 br28 sr28 F => ?_)
    exact g_iret rfl dX2_perform_139 F
  · have zh7 : p1.toInt = 0 ∨ p1.toInt = 1 ∨ p1.toInt = 2 ∨ p1.toInt = 3 ∨ p1.toInt = 4 ∨ p1.toInt = 5 ∨ p1.toInt = 6 ∨ p1.toInt = 7 ∨ p1.toInt = 8 := by omega
    rcases zh7 with zh7 | zh7 | zh7 | zh7 | zh7 | zh7 | zh7 | zh7 | zh7
    · have F := F.1 (tsw_eq zh7 (by decide))
      refine h_tin 64 dX2_perform_15 zh7 (by decide) (by decide) rfl (by decide) ?_
      refine g_aload_n dX2_perform_64 rfl 0 rfl ?_
      refine g_iload_n dX2_perform_65 rfl 2 rfl ?_
      refine g_iload_n dX2_perform_66 rfl 3 rfl ?_
      refine g_aload_n dX2_perform_67 rfl 0 rfl ?_
      refine h_get (v := va_rf (gR G x 29)) 1 29 (C := RX2) (T := TX2) (N := 30) rfl in_X2 (by decide) q2018 (Or.inl rfl) rfl c1 rfl dX2_perform_68 ?_
      refine g_iconst (v := 2) dX2_perform_71 (by decide) ?_
      obtain ⟨k8, F⟩ := F
      refine h_iald e3 c4 k8 dX2_perform_72 ?_
      refine g_aload_n dX2_perform_73 rfl 0 rfl ?_
      refine h_get (v := va_rf (gR G x 29)) 1 29 (C := RX2) (T := TX2) (N := 30) rfl in_X2 (by decide) q2018 (Or.inl rfl) rfl c1 rfl dX2_perform_74 ?_
      refine g_iconst (v := 3) dX2_perform_77 (by decide) ?_
      obtain ⟨k9, F⟩ := F
      refine h_iald e3 c4 k9 dX2_perform_78 ?_
      refine h_callVI (ci := 1) (C := RX2) (T := TX2) (N := 30) (As := [.int (gI G a2 (0 : Int32).toNatClampNeg), .int (gI G a2 (1 : Int32).toNatClampNeg), .int (gI G a2 (2 : Int32).toNatClampNeg), .int (gI G a2 (3 : Int32).toNatClampNeg)]) (rest := []) F 4 rfl rfl (lw_V q2484 q2082 q2083 q117 q2084) vm_X2_addLeg (by decide) rfl c1 rfl (room_of sc_nil (Nat.le_of_ble_eq_true rfl)) dX2_perform_79 (fun r10 Gr10 br10 sr10 F => ?_)
      exact g_iret rfl dX2_perform_82 F
    · have F := F.2.1 (tsw_eq zh7 (by decide))
      refine h_tin 83 dX2_perform_15 zh7 (by decide) (by decide) rfl (by decide) ?_
      refine g_aload_n dX2_perform_83 rfl 0 rfl ?_
      refine g_iload_n dX2_perform_84 rfl 2 rfl ?_
      refine h_callVI (ci := 1) (C := RX2) (T := TX2) (N := 30) (As := [.int (gI G a2 (0 : Int32).toNatClampNeg)]) (rest := []) F 1 rfl rfl (lw_V q2485 q2106 q2107 q117 q2108) vm_X2_addCrew (by decide) rfl c1 rfl (room_of sc_nil (Nat.le_of_ble_eq_true rfl)) dX2_perform_85 (fun r12 Gr12 br12 sr12 F => ?_)
      exact g_iret rfl dX2_perform_88 F
    · have F := F.2.2.1 (tsw_eq zh7 (by decide))
      refine h_tin 89 dX2_perform_15 zh7 (by decide) (by decide) rfl (by decide) ?_
      refine g_aload_n dX2_perform_89 rfl 0 rfl ?_
      refine g_iload_n dX2_perform_90 rfl 2 rfl ?_
      refine g_iload_n dX2_perform_91 rfl 3 rfl ?_
      refine h_callVI (ci := 1) (C := RX2) (T := TX2) (N := 30) (As := [.int (gI G a2 (0 : Int32).toNatClampNeg), .int (gI G a2 (1 : Int32).toNatClampNeg)]) (rest := []) F 2 rfl rfl (lw_V q2486 q2153 q2154 q117 q2155) vm_X2_fly (by decide) rfl c1 rfl (room_of sc_nil (Nat.le_of_ble_eq_true rfl)) dX2_perform_92 (fun r14 Gr14 br14 sr14 F => ?_)
      exact g_iret rfl dX2_perform_95 F
    · have F := F.2.2.2.1 (tsw_eq zh7 (by decide))
      refine h_tin 96 dX2_perform_15 zh7 (by decide) (by decide) rfl (by decide) ?_
      refine g_aload_n dX2_perform_96 rfl 0 rfl ?_
      refine g_iload_n dX2_perform_97 rfl 2 rfl ?_
      refine g_iload_n dX2_perform_98 rfl 3 rfl ?_
      refine h_callVI (ci := 1) (C := RX2) (T := TX2) (N := 30) (As := [.int (gI G a2 (0 : Int32).toNatClampNeg), .int (gI G a2 (1 : Int32).toNatClampNeg)]) (rest := []) F 2 rfl rfl (lw_V q2487 q2238 q2239 q117 q2240) vm_X2_ride (by decide) rfl c1 rfl (room_of sc_nil (Nat.le_of_ble_eq_true rfl)) dX2_perform_99 (fun r16 Gr16 br16 sr16 F => ?_)
      exact g_iret rfl dX2_perform_102 F
    · have F := F.2.2.2.2.1 (tsw_eq zh7 (by decide))
      refine h_tin 103 dX2_perform_15 zh7 (by decide) (by decide) rfl (by decide) ?_
      refine g_aload_n dX2_perform_103 rfl 0 rfl ?_
      refine g_iload_n dX2_perform_104 rfl 2 rfl ?_
      refine g_iload_n dX2_perform_105 rfl 3 rfl ?_
      refine h_callVI (ci := 1) (C := RX2) (T := TX2) (N := 30) (As := [.int (gI G a2 (0 : Int32).toNatClampNeg), .int (gI G a2 (1 : Int32).toNatClampNeg)]) (rest := []) F 2 rfl rfl (lw_V q2488 q2242 q2243 q117 q2244) vm_X2_drop (by decide) rfl c1 rfl (room_of sc_nil (Nat.le_of_ble_eq_true rfl)) dX2_perform_106 (fun r18 Gr18 br18 sr18 F => ?_)
      exact g_iret rfl dX2_perform_109 F
    · have F := F.2.2.2.2.2.1 (tsw_eq zh7 (by decide))
      refine h_tin 110 dX2_perform_15 zh7 (by decide) (by decide) rfl (by decide) ?_
      refine g_aload_n dX2_perform_110 rfl 0 rfl ?_
      refine g_iload_n dX2_perform_111 rfl 2 rfl ?_
      refine g_iload_n dX2_perform_112 rfl 3 rfl ?_
      refine h_callVI (ci := 1) (C := RX2) (T := TX2) (N := 30) (As := [.int (gI G a2 (0 : Int32).toNatClampNeg), .int (gI G a2 (1 : Int32).toNatClampNeg)]) (rest := []) F 2 rfl rfl (lw_V q2489 q2334 q2335 q117 q2336) vm_X2_delay (by decide) rfl c1 rfl (room_of sc_nil (Nat.le_of_ble_eq_true rfl)) dX2_perform_113 (fun r20 Gr20 br20 sr20 F => ?_)
      exact g_iret rfl dX2_perform_116 F
    · have F := F.2.2.2.2.2.2.1 (tsw_eq zh7 (by decide))
      refine h_tin 117 dX2_perform_15 zh7 (by decide) (by decide) rfl (by decide) ?_
      refine g_aload_n dX2_perform_117 rfl 0 rfl ?_
      refine g_iload_n dX2_perform_118 rfl 2 rfl ?_
      refine h_callVI (ci := 1) (C := RX2) (T := TX2) (N := 30) (As := [.int (gI G a2 (0 : Int32).toNatClampNeg)]) (rest := []) F 1 rfl rfl (lw_V q2490 q2342 q2343 q117 q2344) vm_X2_cancel (by decide) rfl c1 rfl (room_of sc_nil (Nat.le_of_ble_eq_true rfl)) dX2_perform_119 (fun r22 Gr22 br22 sr22 F => ?_)
      exact g_iret rfl dX2_perform_122 F
    · have F := F.2.2.2.2.2.2.2.1 (tsw_eq zh7 (by decide))
      refine h_tin 123 dX2_perform_15 zh7 (by decide) (by decide) rfl (by decide) ?_
      refine g_aload_n dX2_perform_123 rfl 0 rfl ?_
      refine g_iload_n dX2_perform_124 rfl 2 rfl ?_
      refine g_iload_n dX2_perform_125 rfl 3 rfl ?_
      refine h_callVI (ci := 1) (C := RX2) (T := TX2) (N := 30) (As := [.int (gI G a2 (0 : Int32).toNatClampNeg), .int (gI G a2 (1 : Int32).toNatClampNeg)]) (rest := []) F 2 rfl rfl (lw_V q2491 q2141 q2142 q117 q2143) vm_X2_setRule (by decide) rfl c1 rfl (room_of sc_nil (Nat.le_of_ble_eq_true rfl)) dX2_perform_126 (fun r24 Gr24 br24 sr24 F => ?_)
      exact g_iret rfl dX2_perform_129 F
    · have F := F.2.2.2.2.2.2.2.2.1 (tsw_eq zh7 (by decide))
      refine h_tin 130 dX2_perform_15 zh7 (by decide) (by decide) rfl (by decide) ?_
      refine g_aload_n dX2_perform_130 rfl 0 rfl ?_
      refine h_callVI (ci := 1) (C := RX2) (T := TX2) (N := 30) (As := []) (rest := []) F 0 rfl rfl (lw_V q2492 q2366 q2367 q117 q2368) vm_X2_pair (by decide) rfl c1 rfl (room_of sc_nil (Nat.le_of_ble_eq_true rfl)) dX2_perform_131 (fun r26 Gr26 br26 sr26 F => ?_)
      exact g_iret rfl dX2_perform_134 F
theorem rX2_save_0 {Γ : GE} {l : Launch} {h MC MS : Nat} {Q : Option Value → GH → Prop} {bc bs : Nat} {G : GH} (x : Nat) (F : (gC G x = kO 1 ∧ ∃ a2, (gR G x 0) = some a2 ∧ gC G a2 = kA 0 ∧ gM G a2 = true ∧ ∃ a6, (gR G x 1) = some a6 ∧ gC G a6 = kA 0 ∧ gM G a6 = true ∧ (0 : Int32).toNatClampNeg + (298 : Int32).toNatClampNeg ≤ gL G a2 ∧ (0 : Int32).toNatClampNeg + (298 : Int32).toNatClampNeg ≤ gL G a6 ∧ 0 < h ∧ ∀ H13, H13 = (wI G a6 (va_cpy (gI G a2) (gI G a6) (0 : Int32).toNatClampNeg (0 : Int32).toNatClampNeg (298 : Int32).toNatClampNeg)) → gC H13 x = kO 1 ∧ gM H13 x = true ∧ ∃ a18, (gR (sI H13 x 2 1) x 0) = some a18 ∧ gC (sI H13 x 2 1) a18 = kA 0 ∧ vp_in 0 (gL (sI H13 x 2 1) a18) ∧ Q (some (.int (gI (sI H13 x 2 1) a18 (0 : Int32).toNatClampNeg))) (sI H13 x 2 1))) : GW Γ l mX2_save h MC MS Q 0 [(0, va_rf (some x))] [] G bc bs := by
  refine g_aload_n dX2_save_0 rfl 0 rfl ?_
  obtain ⟨c1, F⟩ := F
  refine h_get (v := va_rf (gR G x 0)) 1 0 (C := RX2) (T := TX2) (N := 30) rfl in_X2 (by decide) q1989 (Or.inl rfl) rfl c1 rfl dX2_save_1 ?_
  refine g_iconst (v := 0) dX2_save_4 (by decide) ?_
  refine g_aload_n dX2_save_5 rfl 0 rfl ?_
  refine h_get (v := va_rf (gR G x 1)) 1 1 (C := RX2) (T := TX2) (N := 30) rfl in_X2 (by decide) q1990 (Or.inl rfl) rfl c1 rfl dX2_save_6 ?_
  refine g_iconst (v := 0) dX2_save_9 (by decide) ?_
  refine g_sipush (v := 298) dX2_save_10 (by decide) ?_
  obtain ⟨a2, e3, F⟩ := F
  obtain ⟨c4, F⟩ := F
  obtain ⟨m5, F⟩ := F
  obtain ⟨a6, e7, F⟩ := F
  obtain ⟨c8, F⟩ := F
  obtain ⟨m9, F⟩ := F
  obtain ⟨k10, F⟩ := F
  obtain ⟨k11, F⟩ := F
  obtain ⟨k12, F⟩ := F
  refine h_copyi 0 (by decide) q1988 q439 q438 q118 e3 c4 m5 e7 c8 m9 (by decide) (by decide) (by decide) k10 k11 (fun _ _ => rfl) k12 (room_of sc_nil (Nat.le_of_ble_eq_true rfl)) dX2_save_13 ?_
  obtain ⟨H13, h14⟩ : ∃ g : GH, g = (wI G a6 (va_cpy (gI G a2) (gI G a6) (0 : Int32).toNatClampNeg (0 : Int32).toNatClampNeg (298 : Int32).toNatClampNeg)) := ⟨_, rfl⟩
  rw [← h14]
  have F := F H13 h14
  refine g_aload_n dX2_save_16 rfl 0 rfl ?_
  refine g_iconst (v := 1) dX2_save_17 (by decide) ?_
  obtain ⟨c16, F⟩ := F
  obtain ⟨m17, F⟩ := F
  refine h_putI (mi := mX2_save) 1 2 (C := RX2) (T := TX2) (N := 30) rfl in_X2 tyX2_ok nmX2 (by decide) q1991 (Or.inl rfl) (Or.inl rfl) rfl rfl c16 m17 rfl rfl dX2_save_18 ?_
  refine g_aload_n dX2_save_21 rfl 0 rfl ?_
  refine h_get (v := va_rf (gR (sI H13 x 2 1) x 0)) 1 0 (C := RX2) (T := TX2) (N := 30) rfl in_X2 (by decide) q1989 (Or.inl rfl) rfl c16 rfl dX2_save_22 ?_
  refine g_iconst (v := 0) dX2_save_25 (by decide) ?_
  obtain ⟨a18, e19, F⟩ := F
  obtain ⟨c20, F⟩ := F
  obtain ⟨k21, F⟩ := F
  refine h_iald e19 c20 k21 dX2_save_26 ?_
  exact g_iret rfl dX2_save_27 F
theorem rX2_restore_0 {Γ : GE} {l : Launch} {h MC MS : Nat} {Q : Option Value → GH → Prop} {bc bs : Nat} {G : GH} (x : Nat) (F : (gC G x = kO 1 ∧ ((¬ (gI G x 2) = 0 → (cV Γ l h mX2_change [.ref x] G bc bs fun Gr2 br2 sr2 => gC Gr2 x = kO 1 ∧ ∃ a5, (gR Gr2 x 1) = some a5 ∧ gC Gr2 a5 = kA 0 ∧ gM Gr2 a5 = true ∧ ∃ a9, (gR Gr2 x 0) = some a9 ∧ gC Gr2 a9 = kA 0 ∧ gM Gr2 a9 = true ∧ (0 : Int32).toNatClampNeg + (298 : Int32).toNatClampNeg ≤ gL Gr2 a5 ∧ (0 : Int32).toNatClampNeg + (298 : Int32).toNatClampNeg ≤ gL Gr2 a9 ∧ 0 < h ∧ ∀ H16, H16 = (wI Gr2 a9 (va_cpy (gI Gr2 a5) (gI Gr2 a9) (0 : Int32).toNatClampNeg (0 : Int32).toNatClampNeg (298 : Int32).toNatClampNeg)) → gC H16 x = kO 1 ∧ ∃ a20, (gR H16 x 0) = some a20 ∧ gC H16 a20 = kA 0 ∧ vp_in 0 (gL H16 a20) ∧ Q (some (.int (gI H16 a20 (0 : Int32).toNatClampNeg))) H16)) ∧ ((gI G x 2) = 0 → (Q (some (.int (-2))) G))))) : GW Γ l mX2_restore h MC MS Q 0 [(0, va_rf (some x))] [] G bc bs := by
  refine g_aload_n dX2_restore_0 rfl 0 rfl ?_
  obtain ⟨c1, F⟩ := F
  refine h_get (v := .int (gI G x 2)) 1 2 (C := RX2) (T := TX2) (N := 30) rfl in_X2 (by decide) q1991 (Or.inl rfl) rfl c1 rfl dX2_restore_1 ?_
  refine g_if_ne 10 dX2_restore_4 (by decide) (fun h24 => ?_) (fun h24 => ?_)
  · have F := F.1 h24
    refine g_aload_n dX2_restore_10 rfl 0 rfl ?_
    refine h_callVV (ci := 1) (C := RX2) (T := TX2) (N := 30) (As := []) (rest := []) F 0 rfl rfl (lw_V q2097 q2099 qs55 q117 q2100) vm_X2_change (by decide) rfl c1 rfl (room_of sc_nil (Nat.le_of_ble_eq_true rfl)) dX2_restore_11 (fun Gr2 br2 sr2 F => ?_)
    refine g_aload_n dX2_restore_14 rfl 0 rfl ?_
    obtain ⟨c4, F⟩ := F
    refine h_get (v := va_rf (gR Gr2 x 1)) 1 1 (C := RX2) (T := TX2) (N := 30) rfl in_X2 (by decide) q1990 (Or.inl rfl) rfl c4 rfl dX2_restore_15 ?_
    refine g_iconst (v := 0) dX2_restore_18 (by decide) ?_
    refine g_aload_n dX2_restore_19 rfl 0 rfl ?_
    refine h_get (v := va_rf (gR Gr2 x 0)) 1 0 (C := RX2) (T := TX2) (N := 30) rfl in_X2 (by decide) q1989 (Or.inl rfl) rfl c4 rfl dX2_restore_20 ?_
    refine g_iconst (v := 0) dX2_restore_23 (by decide) ?_
    refine g_sipush (v := 298) dX2_restore_24 (by decide) ?_
    obtain ⟨a5, e6, F⟩ := F
    obtain ⟨c7, F⟩ := F
    obtain ⟨m8, F⟩ := F
    obtain ⟨a9, e10, F⟩ := F
    obtain ⟨c11, F⟩ := F
    obtain ⟨m12, F⟩ := F
    obtain ⟨k13, F⟩ := F
    obtain ⟨k14, F⟩ := F
    obtain ⟨k15, F⟩ := F
    refine h_copyi 0 (by decide) q1988 q439 q438 q118 e6 c7 m8 e10 c11 m12 (by decide) (by decide) (by decide) k13 k14 (fun _ _ => rfl) k15 (room_of sc_nil (Nat.le_of_ble_eq_true rfl)) dX2_restore_27 ?_
    obtain ⟨H16, h17⟩ : ∃ g : GH, g = (wI Gr2 a9 (va_cpy (gI Gr2 a5) (gI Gr2 a9) (0 : Int32).toNatClampNeg (0 : Int32).toNatClampNeg (298 : Int32).toNatClampNeg)) := ⟨_, rfl⟩
    rw [← h17]
    have F := F H16 h17
    refine g_aload_n dX2_restore_30 rfl 0 rfl ?_
    obtain ⟨c19, F⟩ := F
    refine h_get (v := va_rf (gR H16 x 0)) 1 0 (C := RX2) (T := TX2) (N := 30) rfl in_X2 (by decide) q1989 (Or.inl rfl) rfl c19 rfl dX2_restore_31 ?_
    refine g_iconst (v := 0) dX2_restore_34 (by decide) ?_
    obtain ⟨a20, e21, F⟩ := F
    obtain ⟨c22, F⟩ := F
    obtain ⟨k23, F⟩ := F
    refine h_iald e21 c22 k23 dX2_restore_35 ?_
    exact g_iret rfl dX2_restore_36 F
  · have F := F.2 h24
    refine g_bipush (v := (-2)) dX2_restore_7 (by decide) ?_
    exact g_iret rfl dX2_restore_9 F
theorem rX2_undo_0 {Γ : GE} {l : Launch} {h MC MS : Nat} {Q : Option Value → GH → Prop} {bc bs : Nat} {G : GH} (x : Nat) (F : (gC G x = kO 1 ∧ ((¬ (gI G x 4) = 0 → (gM G x = true ∧ ∃ a3, (gR (sI G x 4 ((gI G x 4) - 1)) x 3) = some a3 ∧ gC (sI G x 4 ((gI G x 4) - 1)) a3 = kA 0 ∧ gM (sI G x 4 ((gI G x 4) - 1)) a3 = true ∧ ∃ a7, (gR (sI G x 4 ((gI G x 4) - 1)) x 0) = some a7 ∧ gC (sI G x 4 ((gI G x 4) - 1)) a7 = kA 0 ∧ gM (sI G x 4 ((gI G x 4) - 1)) a7 = true ∧ ¬ (298 * (gI (sI G x 4 ((gI G x 4) - 1)) x 4)) < 0 ∧ (298 * (gI (sI G x 4 ((gI G x 4) - 1)) x 4)).toNatClampNeg + (298 : Int32).toNatClampNeg ≤ gL (sI G x 4 ((gI G x 4) - 1)) a3 ∧ (0 : Int32).toNatClampNeg + (298 : Int32).toNatClampNeg ≤ gL (sI G x 4 ((gI G x 4) - 1)) a7 ∧ 0 < h ∧ ∀ H15, H15 = (wI (sI G x 4 ((gI G x 4) - 1)) a7 (va_cpy (gI (sI G x 4 ((gI G x 4) - 1)) a3) (gI (sI G x 4 ((gI G x 4) - 1)) a7) (298 * (gI (sI G x 4 ((gI G x 4) - 1)) x 4)).toNatClampNeg (0 : Int32).toNatClampNeg (298 : Int32).toNatClampNeg)) → gC H15 x = kO 1 ∧ Q (some (.int (gI H15 x 4))) H15)) ∧ ((gI G x 4) = 0 → (Q (some (.int (-2))) G))))) : GW Γ l mX2_undo h MC MS Q 0 [(0, va_rf (some x))] [] G bc bs := by
  refine g_aload_n dX2_undo_0 rfl 0 rfl ?_
  obtain ⟨c1, F⟩ := F
  refine h_get (v := .int (gI G x 4)) 1 4 (C := RX2) (T := TX2) (N := 30) rfl in_X2 (by decide) q1993 (Or.inl rfl) rfl c1 rfl dX2_undo_1 ?_
  refine g_if_ne 10 dX2_undo_4 (by decide) (fun h19 => ?_) (fun h19 => ?_)
  · have F := F.1 h19
    refine g_aload_n dX2_undo_10 rfl 0 rfl ?_
    refine g_dup dX2_undo_11 (va_rf_cat _) ?_
    refine h_get (v := .int (gI G x 4)) 1 4 (C := RX2) (T := TX2) (N := 30) rfl in_X2 (by decide) q1993 (Or.inl rfl) rfl c1 rfl dX2_undo_12 ?_
    refine g_iconst (v := 1) dX2_undo_15 (by decide) ?_
    refine g_isub dX2_undo_16 ?_
    obtain ⟨m2, F⟩ := F
    refine h_putI (mi := mX2_undo) 1 4 (C := RX2) (T := TX2) (N := 30) rfl in_X2 tyX2_ok nmX2 (by decide) q1993 (Or.inl rfl) (Or.inl rfl) rfl rfl c1 m2 rfl rfl dX2_undo_17 ?_
    refine g_aload_n dX2_undo_20 rfl 0 rfl ?_
    refine h_get (v := va_rf (gR (sI G x 4 ((gI G x 4) - 1)) x 3)) 1 3 (C := RX2) (T := TX2) (N := 30) rfl in_X2 (by decide) q1992 (Or.inl rfl) rfl c1 rfl dX2_undo_21 ?_
    refine g_sipush (v := 298) dX2_undo_24 (by decide) ?_
    refine g_aload_n dX2_undo_27 rfl 0 rfl ?_
    refine h_get (v := .int (gI (sI G x 4 ((gI G x 4) - 1)) x 4)) 1 4 (C := RX2) (T := TX2) (N := 30) rfl in_X2 (by decide) q1993 (Or.inl rfl) rfl c1 rfl dX2_undo_28 ?_
    refine g_imul dX2_undo_31 ?_
    refine g_aload_n dX2_undo_32 rfl 0 rfl ?_
    refine h_get (v := va_rf (gR (sI G x 4 ((gI G x 4) - 1)) x 0)) 1 0 (C := RX2) (T := TX2) (N := 30) rfl in_X2 (by decide) q1989 (Or.inl rfl) rfl c1 rfl dX2_undo_33 ?_
    refine g_iconst (v := 0) dX2_undo_36 (by decide) ?_
    refine g_sipush (v := 298) dX2_undo_37 (by decide) ?_
    obtain ⟨a3, e4, F⟩ := F
    obtain ⟨c5, F⟩ := F
    obtain ⟨m6, F⟩ := F
    obtain ⟨a7, e8, F⟩ := F
    obtain ⟨c9, F⟩ := F
    obtain ⟨m10, F⟩ := F
    obtain ⟨k11, F⟩ := F
    obtain ⟨k12, F⟩ := F
    obtain ⟨k13, F⟩ := F
    obtain ⟨k14, F⟩ := F
    refine h_copyi 0 (by decide) q1988 q439 q438 q118 e4 c5 m6 e8 c9 m10 k11 (by decide) (by decide) k12 k13 (fun _ _ => rfl) k14 (room_of sc_nil (Nat.le_of_ble_eq_true rfl)) dX2_undo_40 ?_
    obtain ⟨H15, h16⟩ : ∃ g : GH, g = (wI (sI G x 4 ((gI G x 4) - 1)) a7 (va_cpy (gI (sI G x 4 ((gI G x 4) - 1)) a3) (gI (sI G x 4 ((gI G x 4) - 1)) a7) (298 * (gI (sI G x 4 ((gI G x 4) - 1)) x 4)).toNatClampNeg (0 : Int32).toNatClampNeg (298 : Int32).toNatClampNeg)) := ⟨_, rfl⟩
    rw [← h16]
    have F := F H15 h16
    refine g_aload_n dX2_undo_43 rfl 0 rfl ?_
    obtain ⟨c18, F⟩ := F
    refine h_get (v := .int (gI H15 x 4)) 1 4 (C := RX2) (T := TX2) (N := 30) rfl in_X2 (by decide) q1993 (Or.inl rfl) rfl c18 rfl dX2_undo_44 ?_
    exact g_iret rfl dX2_undo_47 F
  · have F := F.2 h19
    refine g_bipush (v := (-2)) dX2_undo_7 (by decide) ?_
    exact g_iret rfl dX2_undo_9 F
