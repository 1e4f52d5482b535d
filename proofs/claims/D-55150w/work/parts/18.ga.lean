/-! WHAT THE WALKS ASK OF THE START (printed) -/
/-! the sites of lambdas -/
def sg_1 : Lambda.Shape := ({ iface := "JumpHall$Deed", name := "in", sam := ({ parameters := [(FieldType.object "JumpHall$Hall")], returnType := (Option.some FieldType.int) } : MethodDescriptor), captured := [], kind := 6, implClass := "JumpHall", implName := "lambda$mat$0", implDesc := ({ parameters := [(FieldType.object "JumpHall$Hall")], returnType := (Option.some FieldType.int) } : MethodDescriptor), implItf := false, inst := ({ parameters := [(FieldType.object "JumpHall$Hall")], returnType := (Option.some FieldType.int) } : MethodDescriptor) } : Lambda.Shape)
def hc_1 : ByteArray := ⟨#[43, 184, 0, 17, 172]⟩
theorem hfb_1 : hfb sg_1 "JumpHall" hc_1 .int [] 17 14 = true := by decide +kernel
def sg_2 : Lambda.Shape := ({ iface := "JumpHall$Deed", name := "in", sam := ({ parameters := [(FieldType.object "JumpHall$Hall")], returnType := (Option.some FieldType.int) } : MethodDescriptor), captured := [FieldType.int, FieldType.int], kind := 6, implClass := "JumpHall", implName := "lambda$fix$1", implDesc := ({ parameters := [FieldType.int, FieldType.int, (FieldType.object "JumpHall$Hall")], returnType := (Option.some FieldType.int) } : MethodDescriptor), implItf := false, inst := ({ parameters := [(FieldType.object "JumpHall$Hall")], returnType := (Option.some FieldType.int) } : MethodDescriptor) } : Lambda.Shape)
def hc_2 : ByteArray := ⟨#[42, 180, 0, 16, 42, 180, 0, 18, 43, 184, 0, 26, 172]⟩
theorem hfb_2 : hfb sg_2 "JumpHall" hc_2 .int [16, 18] 26 22 = true := by decide +kernel
def sg_3 : Lambda.Shape := ({ iface := "JumpHall$Test", name := "is", sam := ({ parameters := [(FieldType.object "JumpHall$Jumper")], returnType := (Option.some FieldType.boolean) } : MethodDescriptor), captured := [FieldType.int], kind := 6, implClass := "JumpHall$Hall", implName := "lambda$fix$1", implDesc := ({ parameters := [FieldType.int, (FieldType.object "JumpHall$Jumper")], returnType := (Option.some FieldType.boolean) } : MethodDescriptor), implItf := false, inst := ({ parameters := [(FieldType.object "JumpHall$Jumper")], returnType := (Option.some FieldType.boolean) } : MethodDescriptor) } : Lambda.Shape)
def hc_3 : ByteArray := ⟨#[42, 180, 0, 15, 43, 184, 0, 23, 172]⟩
theorem hfb_3 : hfb sg_3 "JumpHall$Hall" hc_3 .boolean [15] 23 19 = true := by decide +kernel
def sg_4 : Lambda.Shape := ({ iface := "JumpHall$Deed", name := "in", sam := ({ parameters := [(FieldType.object "JumpHall$Hall")], returnType := (Option.some FieldType.int) } : MethodDescriptor), captured := [FieldType.int], kind := 6, implClass := "JumpHall", implName := "lambda$open$2", implDesc := ({ parameters := [FieldType.int, (FieldType.object "JumpHall$Hall")], returnType := (Option.some FieldType.int) } : MethodDescriptor), implItf := false, inst := ({ parameters := [(FieldType.object "JumpHall$Hall")], returnType := (Option.some FieldType.int) } : MethodDescriptor) } : Lambda.Shape)
def hc_4 : ByteArray := ⟨#[42, 180, 0, 15, 43, 184, 0, 23, 172]⟩
theorem hfb_4 : hfb sg_4 "JumpHall" hc_4 .int [15] 23 19 = true := by decide +kernel
def sg_5 : Lambda.Shape := ({ iface := "JumpHall$Test", name := "is", sam := ({ parameters := [(FieldType.object "JumpHall$Jumper")], returnType := (Option.some FieldType.boolean) } : MethodDescriptor), captured := [FieldType.int], kind := 6, implClass := "JumpHall", implName := "lambda$matOf$3", implDesc := ({ parameters := [FieldType.int, (FieldType.object "JumpHall$Jumper")], returnType := (Option.some FieldType.boolean) } : MethodDescriptor), implItf := false, inst := ({ parameters := [(FieldType.object "JumpHall$Jumper")], returnType := (Option.some FieldType.boolean) } : MethodDescriptor) } : Lambda.Shape)
def hc_5 : ByteArray := ⟨#[42, 180, 0, 15, 43, 184, 0, 23, 172]⟩
theorem hfb_5 : hfb sg_5 "JumpHall" hc_5 .boolean [15] 23 19 = true := by decide +kernel
def sg_6 : Lambda.Shape := ({ iface := "JumpHall$Test", name := "is", sam := ({ parameters := [(FieldType.object "JumpHall$Jumper")], returnType := (Option.some FieldType.boolean) } : MethodDescriptor), captured := [FieldType.int], kind := 6, implClass := "JumpHall$Hall", implName := "lambda$weightOn$0", implDesc := ({ parameters := [FieldType.int, (FieldType.object "JumpHall$Jumper")], returnType := (Option.some FieldType.boolean) } : MethodDescriptor), implItf := false, inst := ({ parameters := [(FieldType.object "JumpHall$Jumper")], returnType := (Option.some FieldType.boolean) } : MethodDescriptor) } : Lambda.Shape)
def hc_6 : ByteArray := ⟨#[42, 180, 0, 15, 43, 184, 0, 23, 172]⟩
theorem hfb_6 : hfb sg_6 "JumpHall$Hall" hc_6 .boolean [15] 23 19 = true := by decide +kernel
def sg_7 : Lambda.Shape := ({ iface := "JumpHall$Deed", name := "in", sam := ({ parameters := [(FieldType.object "JumpHall$Hall")], returnType := (Option.some FieldType.int) } : MethodDescriptor), captured := [FieldType.int, FieldType.int], kind := 6, implClass := "JumpHall", implName := "lambda$jumper$4", implDesc := ({ parameters := [FieldType.int, FieldType.int, (FieldType.object "JumpHall$Hall")], returnType := (Option.some FieldType.int) } : MethodDescriptor), implItf := false, inst := ({ parameters := [(FieldType.object "JumpHall$Hall")], returnType := (Option.some FieldType.int) } : MethodDescriptor) } : Lambda.Shape)
def hc_7 : ByteArray := ⟨#[42, 180, 0, 16, 42, 180, 0, 18, 43, 184, 0, 26, 172]⟩
theorem hfb_7 : hfb sg_7 "JumpHall" hc_7 .int [16, 18] 26 22 = true := by decide +kernel
def sg_8 : Lambda.Shape := ({ iface := "JumpHall$Deed", name := "in", sam := ({ parameters := [(FieldType.object "JumpHall$Hall")], returnType := (Option.some FieldType.int) } : MethodDescriptor), captured := [FieldType.int, FieldType.int], kind := 6, implClass := "JumpHall", implName := "lambda$up$5", implDesc := ({ parameters := [FieldType.int, FieldType.int, (FieldType.object "JumpHall$Hall")], returnType := (Option.some FieldType.int) } : MethodDescriptor), implItf := false, inst := ({ parameters := [(FieldType.object "JumpHall$Hall")], returnType := (Option.some FieldType.int) } : MethodDescriptor) } : Lambda.Shape)
def hc_8 : ByteArray := ⟨#[42, 180, 0, 16, 42, 180, 0, 18, 43, 184, 0, 26, 172]⟩
theorem hfb_8 : hfb sg_8 "JumpHall" hc_8 .int [16, 18] 26 22 = true := by decide +kernel
def sg_9 : Lambda.Shape := ({ iface := "JumpHall$Test", name := "is", sam := ({ parameters := [(FieldType.object "JumpHall$Jumper")], returnType := (Option.some FieldType.boolean) } : MethodDescriptor), captured := [FieldType.int], kind := 6, implClass := "JumpHall$Hall", implName := "lambda$checkUp$2", implDesc := ({ parameters := [FieldType.int, (FieldType.object "JumpHall$Jumper")], returnType := (Option.some FieldType.boolean) } : MethodDescriptor), implItf := false, inst := ({ parameters := [(FieldType.object "JumpHall$Jumper")], returnType := (Option.some FieldType.boolean) } : MethodDescriptor) } : Lambda.Shape)
def hc_9 : ByteArray := ⟨#[42, 180, 0, 15, 43, 184, 0, 23, 172]⟩
theorem hfb_9 : hfb sg_9 "JumpHall$Hall" hc_9 .boolean [15] 23 19 = true := by decide +kernel
def sg_10 : Lambda.Shape := ({ iface := "JumpHall$Test", name := "is", sam := ({ parameters := [(FieldType.object "JumpHall$Jumper")], returnType := (Option.some FieldType.boolean) } : MethodDescriptor), captured := [FieldType.int], kind := 6, implClass := "JumpHall$Hall", implName := "lambda$checkUp$3", implDesc := ({ parameters := [FieldType.int, (FieldType.object "JumpHall$Jumper")], returnType := (Option.some FieldType.boolean) } : MethodDescriptor), implItf := false, inst := ({ parameters := [(FieldType.object "JumpHall$Jumper")], returnType := (Option.some FieldType.boolean) } : MethodDescriptor) } : Lambda.Shape)
def hc_10 : ByteArray := ⟨#[42, 180, 0, 15, 43, 184, 0, 23, 172]⟩
theorem hfb_10 : hfb sg_10 "JumpHall$Hall" hc_10 .boolean [15] 23 19 = true := by decide +kernel
def sg_11 : Lambda.Shape := ({ iface := "JumpHall$Deed", name := "in", sam := ({ parameters := [(FieldType.object "JumpHall$Hall")], returnType := (Option.some FieldType.int) } : MethodDescriptor), captured := [FieldType.int], kind := 6, implClass := "JumpHall", implName := "lambda$down$6", implDesc := ({ parameters := [FieldType.int, (FieldType.object "JumpHall$Hall")], returnType := (Option.some FieldType.int) } : MethodDescriptor), implItf := false, inst := ({ parameters := [(FieldType.object "JumpHall$Hall")], returnType := (Option.some FieldType.int) } : MethodDescriptor) } : Lambda.Shape)
def hc_11 : ByteArray := ⟨#[42, 180, 0, 15, 43, 184, 0, 23, 172]⟩
theorem hfb_11 : hfb sg_11 "JumpHall" hc_11 .int [15] 23 19 = true := by decide +kernel
def sg_12 : Lambda.Shape := ({ iface := "JumpHall$Deed", name := "in", sam := ({ parameters := [(FieldType.object "JumpHall$Hall")], returnType := (Option.some FieldType.int) } : MethodDescriptor), captured := [FieldType.int], kind := 6, implClass := "JumpHall", implName := "lambda$leave$7", implDesc := ({ parameters := [FieldType.int, (FieldType.object "JumpHall$Hall")], returnType := (Option.some FieldType.int) } : MethodDescriptor), implItf := false, inst := ({ parameters := [(FieldType.object "JumpHall$Hall")], returnType := (Option.some FieldType.int) } : MethodDescriptor) } : Lambda.Shape)
def hc_12 : ByteArray := ⟨#[42, 180, 0, 15, 43, 184, 0, 23, 172]⟩
theorem hfb_12 : hfb sg_12 "JumpHall" hc_12 .int [15] 23 19 = true := by decide +kernel
def sg_13 : Lambda.Shape := ({ iface := "JumpHall$Test", name := "is", sam := ({ parameters := [(FieldType.object "JumpHall$Jumper")], returnType := (Option.some FieldType.boolean) } : MethodDescriptor), captured := [], kind := 6, implClass := "JumpHall$Hall", implName := "lambda$leave$4", implDesc := ({ parameters := [(FieldType.object "JumpHall$Jumper")], returnType := (Option.some FieldType.boolean) } : MethodDescriptor), implItf := false, inst := ({ parameters := [(FieldType.object "JumpHall$Jumper")], returnType := (Option.some FieldType.boolean) } : MethodDescriptor) } : Lambda.Shape)
def hc_13 : ByteArray := ⟨#[43, 184, 0, 17, 172]⟩
theorem hfb_13 : hfb sg_13 "JumpHall$Hall" hc_13 .boolean [] 17 14 = true := by decide +kernel
def sg_14 : Lambda.Shape := ({ iface := "JumpHall$Deed", name := "in", sam := ({ parameters := [(FieldType.object "JumpHall$Hall")], returnType := (Option.some FieldType.int) } : MethodDescriptor), captured := [FieldType.int, FieldType.int, FieldType.int], kind := 6, implClass := "JumpHall", implName := "lambda$stock$8", implDesc := ({ parameters := [FieldType.int, FieldType.int, FieldType.int, (FieldType.object "JumpHall$Hall")], returnType := (Option.some FieldType.int) } : MethodDescriptor), implItf := false, inst := ({ parameters := [(FieldType.object "JumpHall$Hall")], returnType := (Option.some FieldType.int) } : MethodDescriptor) } : Lambda.Shape)
def hc_14 : ByteArray := ⟨#[42, 180, 0, 17, 42, 180, 0, 19, 42, 180, 0, 21, 43, 184, 0, 29, 172]⟩
theorem hfb_14 : hfb sg_14 "JumpHall" hc_14 .int [17, 19, 21] 29 25 = true := by decide +kernel
def sg_15 : Lambda.Shape := ({ iface := "JumpHall$Deed", name := "in", sam := ({ parameters := [(FieldType.object "JumpHall$Hall")], returnType := (Option.some FieldType.int) } : MethodDescriptor), captured := [FieldType.int, FieldType.int], kind := 6, implClass := "JumpHall", implName := "lambda$sell$9", implDesc := ({ parameters := [FieldType.int, FieldType.int, (FieldType.object "JumpHall$Hall")], returnType := (Option.some FieldType.int) } : MethodDescriptor), implItf := false, inst := ({ parameters := [(FieldType.object "JumpHall$Hall")], returnType := (Option.some FieldType.int) } : MethodDescriptor) } : Lambda.Shape)
def hc_15 : ByteArray := ⟨#[42, 180, 0, 16, 42, 180, 0, 18, 43, 184, 0, 26, 172]⟩
theorem hfb_15 : hfb sg_15 "JumpHall" hc_15 .int [16, 18] 26 22 = true := by decide +kernel
def sg_16 : Lambda.Shape := ({ iface := "JumpHall$Deed", name := "in", sam := ({ parameters := [(FieldType.object "JumpHall$Hall")], returnType := (Option.some FieldType.int) } : MethodDescriptor), captured := [], kind := 6, implClass := "JumpHall", implName := "lambda$guard$10", implDesc := ({ parameters := [(FieldType.object "JumpHall$Hall")], returnType := (Option.some FieldType.int) } : MethodDescriptor), implItf := false, inst := ({ parameters := [(FieldType.object "JumpHall$Hall")], returnType := (Option.some FieldType.int) } : MethodDescriptor) } : Lambda.Shape)
def hc_16 : ByteArray := ⟨#[43, 184, 0, 17, 172]⟩
theorem hfb_16 : hfb sg_16 "JumpHall" hc_16 .int [] 17 14 = true := by decide +kernel
def sg_17 : Lambda.Shape := ({ iface := "JumpHall$Deed", name := "in", sam := ({ parameters := [(FieldType.object "JumpHall$Hall")], returnType := (Option.some FieldType.int) } : MethodDescriptor), captured := [FieldType.int, FieldType.int], kind := 6, implClass := "JumpHall", implName := "lambda$place$11", implDesc := ({ parameters := [FieldType.int, FieldType.int, (FieldType.object "JumpHall$Hall")], returnType := (Option.some FieldType.int) } : MethodDescriptor), implItf := false, inst := ({ parameters := [(FieldType.object "JumpHall$Hall")], returnType := (Option.some FieldType.int) } : MethodDescriptor) } : Lambda.Shape)
def hc_17 : ByteArray := ⟨#[42, 180, 0, 16, 42, 180, 0, 18, 43, 184, 0, 26, 172]⟩
theorem hfb_17 : hfb sg_17 "JumpHall" hc_17 .int [16, 18] 26 22 = true := by decide +kernel
def sg_18 : Lambda.Shape := ({ iface := "JumpHall$Deed", name := "in", sam := ({ parameters := [(FieldType.object "JumpHall$Hall")], returnType := (Option.some FieldType.int) } : MethodDescriptor), captured := [FieldType.int, FieldType.int, FieldType.int, FieldType.int], kind := 6, implClass := "JumpHall", implName := "lambda$book$12", implDesc := ({ parameters := [FieldType.int, FieldType.int, FieldType.int, FieldType.int, (FieldType.object "JumpHall$Hall")], returnType := (Option.some FieldType.int) } : MethodDescriptor), implItf := false, inst := ({ parameters := [(FieldType.object "JumpHall$Hall")], returnType := (Option.some FieldType.int) } : MethodDescriptor) } : Lambda.Shape)
def hc_18 : ByteArray := ⟨#[42, 180, 0, 18, 42, 180, 0, 20, 42, 180, 0, 22, 42, 180, 0, 24, 43, 184, 0, 32, 172]⟩
theorem hfb_18 : hfb sg_18 "JumpHall" hc_18 .int [18, 20, 22, 24] 32 28 = true := by decide +kernel
def sg_19 : Lambda.Shape := ({ iface := "JumpHall$Deed", name := "in", sam := ({ parameters := [(FieldType.object "JumpHall$Hall")], returnType := (Option.some FieldType.int) } : MethodDescriptor), captured := [FieldType.int], kind := 6, implClass := "JumpHall", implName := "lambda$cancel$13", implDesc := ({ parameters := [FieldType.int, (FieldType.object "JumpHall$Hall")], returnType := (Option.some FieldType.int) } : MethodDescriptor), implItf := false, inst := ({ parameters := [(FieldType.object "JumpHall$Hall")], returnType := (Option.some FieldType.int) } : MethodDescriptor) } : Lambda.Shape)
def hc_19 : ByteArray := ⟨#[42, 180, 0, 15, 43, 184, 0, 23, 172]⟩
theorem hfb_19 : hfb sg_19 "JumpHall" hc_19 .int [15] 23 19 = true := by decide +kernel
def sg_20 : Lambda.Shape := ({ iface := "JumpHall$Deed", name := "in", sam := ({ parameters := [(FieldType.object "JumpHall$Hall")], returnType := (Option.some FieldType.int) } : MethodDescriptor), captured := [FieldType.int], kind := 6, implClass := "JumpHall", implName := "lambda$pass$14", implDesc := ({ parameters := [FieldType.int, (FieldType.object "JumpHall$Hall")], returnType := (Option.some FieldType.int) } : MethodDescriptor), implItf := false, inst := ({ parameters := [(FieldType.object "JumpHall$Hall")], returnType := (Option.some FieldType.int) } : MethodDescriptor) } : Lambda.Shape)
def hc_20 : ByteArray := ⟨#[42, 180, 0, 15, 43, 184, 0, 23, 172]⟩
theorem hfb_20 : hfb sg_20 "JumpHall" hc_20 .int [15] 23 19 = true := by decide +kernel
def sg_21 : Lambda.Shape := ({ iface := "JumpHall$Test", name := "is", sam := ({ parameters := [(FieldType.object "JumpHall$Jumper")], returnType := (Option.some FieldType.boolean) } : MethodDescriptor), captured := [], kind := 6, implClass := "JumpHall", implName := "lambda$meanWeight$15", implDesc := ({ parameters := [(FieldType.object "JumpHall$Jumper")], returnType := (Option.some FieldType.boolean) } : MethodDescriptor), implItf := false, inst := ({ parameters := [(FieldType.object "JumpHall$Jumper")], returnType := (Option.some FieldType.boolean) } : MethodDescriptor) } : Lambda.Shape)
def hc_21 : ByteArray := ⟨#[43, 184, 0, 17, 172]⟩
theorem hfb_21 : hfb sg_21 "JumpHall" hc_21 .boolean [] 17 14 = true := by decide +kernel
def sg_22 : Lambda.Shape := ({ iface := "JumpHall$Test", name := "is", sam := ({ parameters := [(FieldType.object "JumpHall$Jumper")], returnType := (Option.some FieldType.boolean) } : MethodDescriptor), captured := [], kind := 6, implClass := "JumpHall", implName := "lambda$meanWeight$16", implDesc := ({ parameters := [(FieldType.object "JumpHall$Jumper")], returnType := (Option.some FieldType.boolean) } : MethodDescriptor), implItf := false, inst := ({ parameters := [(FieldType.object "JumpHall$Jumper")], returnType := (Option.some FieldType.boolean) } : MethodDescriptor) } : Lambda.Shape)
def hc_22 : ByteArray := ⟨#[43, 184, 0, 17, 172]⟩
theorem hfb_22 : hfb sg_22 "JumpHall" hc_22 .boolean [] 17 14 = true := by decide +kernel
def sg_23 : Lambda.Shape := ({ iface := "JumpHall$Test", name := "is", sam := ({ parameters := [(FieldType.object "JumpHall$Jumper")], returnType := (Option.some FieldType.boolean) } : MethodDescriptor), captured := [FieldType.int], kind := 6, implClass := "JumpHall", implName := "lambda$account$17", implDesc := ({ parameters := [FieldType.int, (FieldType.object "JumpHall$Jumper")], returnType := (Option.some FieldType.boolean) } : MethodDescriptor), implItf := false, inst := ({ parameters := [(FieldType.object "JumpHall$Jumper")], returnType := (Option.some FieldType.boolean) } : MethodDescriptor) } : Lambda.Shape)
def hc_23 : ByteArray := ⟨#[42, 180, 0, 15, 43, 184, 0, 23, 172]⟩
theorem hfb_23 : hfb sg_23 "JumpHall" hc_23 .boolean [15] 23 19 = true := by decide +kernel
def sg_24 : Lambda.Shape := ({ iface := "JumpHall$Test", name := "is", sam := ({ parameters := [(FieldType.object "JumpHall$Jumper")], returnType := (Option.some FieldType.boolean) } : MethodDescriptor), captured := [], kind := 6, implClass := "JumpHall", implName := "lambda$account$18", implDesc := ({ parameters := [(FieldType.object "JumpHall$Jumper")], returnType := (Option.some FieldType.boolean) } : MethodDescriptor), implItf := false, inst := ({ parameters := [(FieldType.object "JumpHall$Jumper")], returnType := (Option.some FieldType.boolean) } : MethodDescriptor) } : Lambda.Shape)
def hc_24 : ByteArray := ⟨#[43, 184, 0, 17, 172]⟩
theorem hfb_24 : hfb sg_24 "JumpHall" hc_24 .boolean [] 17 14 = true := by decide +kernel
def sg_25 : Lambda.Shape := ({ iface := "JumpHall$Deed", name := "in", sam := ({ parameters := [(FieldType.object "JumpHall$Hall")], returnType := (Option.some FieldType.int) } : MethodDescriptor), captured := [(FieldType.object "JumpHall$Parser")], kind := 6, implClass := "JumpHall", implName := "lambda$read$19", implDesc := ({ parameters := [(FieldType.object "JumpHall$Parser"), (FieldType.object "JumpHall$Hall")], returnType := (Option.some FieldType.int) } : MethodDescriptor), implItf := false, inst := ({ parameters := [(FieldType.object "JumpHall$Hall")], returnType := (Option.some FieldType.int) } : MethodDescriptor) } : Lambda.Shape)
def hc_25 : ByteArray := ⟨#[42, 180, 0, 15, 43, 184, 0, 23, 172]⟩
theorem hfb_25 : hfb sg_25 "JumpHall" hc_25 .int [15] 23 19 = true := by decide +kernel
def sg_26 : Lambda.Shape := ({ iface := "JumpHall$Deed", name := "in", sam := ({ parameters := [(FieldType.object "JumpHall$Hall")], returnType := (Option.some FieldType.int) } : MethodDescriptor), captured := [(FieldType.object "JumpHall$Command")], kind := 5, implClass := "JumpHall$Command", implName := "lambda$deed$0", implDesc := ({ parameters := [(FieldType.object "JumpHall$Hall")], returnType := (Option.some FieldType.int) } : MethodDescriptor), implItf := false, inst := ({ parameters := [(FieldType.object "JumpHall$Hall")], returnType := (Option.some FieldType.int) } : MethodDescriptor) } : Lambda.Shape)
def hc_26 : ByteArray := ⟨#[42, 180, 0, 15, 43, 182, 0, 22, 172]⟩
theorem hfb_26 : hfb sg_26 "JumpHall$Command" hc_26 .int [15] 22 19 = true := by decide +kernel
def sg_27 : Lambda.Shape := ({ iface := "JumpHall$Deed", name := "in", sam := ({ parameters := [(FieldType.object "JumpHall$Hall")], returnType := (Option.some FieldType.int) } : MethodDescriptor), captured := [(FieldType.object "JumpHall$Command")], kind := 5, implClass := "JumpHall$Command", implName := "lambda$deed$1", implDesc := ({ parameters := [(FieldType.object "JumpHall$Hall")], returnType := (Option.some FieldType.int) } : MethodDescriptor), implItf := false, inst := ({ parameters := [(FieldType.object "JumpHall$Hall")], returnType := (Option.some FieldType.int) } : MethodDescriptor) } : Lambda.Shape)
def hc_27 : ByteArray := ⟨#[42, 180, 0, 15, 43, 182, 0, 22, 172]⟩
theorem hfb_27 : hfb sg_27 "JumpHall$Command" hc_27 .int [15] 22 19 = true := by decide +kernel
def sg_28 : Lambda.Shape := ({ iface := "JumpHall$Deed", name := "in", sam := ({ parameters := [(FieldType.object "JumpHall$Hall")], returnType := (Option.some FieldType.int) } : MethodDescriptor), captured := [(FieldType.object "JumpHall$Command")], kind := 5, implClass := "JumpHall$Command", implName := "lambda$deed$2", implDesc := ({ parameters := [(FieldType.object "JumpHall$Hall")], returnType := (Option.some FieldType.int) } : MethodDescriptor), implItf := false, inst := ({ parameters := [(FieldType.object "JumpHall$Hall")], returnType := (Option.some FieldType.int) } : MethodDescriptor) } : Lambda.Shape)
def hc_28 : ByteArray := ⟨#[42, 180, 0, 15, 43, 182, 0, 22, 172]⟩
theorem hfb_28 : hfb sg_28 "JumpHall$Command" hc_28 .int [15] 22 19 = true := by decide +kernel
def sg_29 : Lambda.Shape := ({ iface := "JumpHall$Deed", name := "in", sam := ({ parameters := [(FieldType.object "JumpHall$Hall")], returnType := (Option.some FieldType.int) } : MethodDescriptor), captured := [(FieldType.object "JumpHall$Command")], kind := 5, implClass := "JumpHall$Command", implName := "lambda$deed$3", implDesc := ({ parameters := [(FieldType.object "JumpHall$Hall")], returnType := (Option.some FieldType.int) } : MethodDescriptor), implItf := false, inst := ({ parameters := [(FieldType.object "JumpHall$Hall")], returnType := (Option.some FieldType.int) } : MethodDescriptor) } : Lambda.Shape)
def hc_29 : ByteArray := ⟨#[42, 180, 0, 15, 43, 182, 0, 22, 172]⟩
theorem hfb_29 : hfb sg_29 "JumpHall$Command" hc_29 .int [15] 22 19 = true := by decide +kernel
def sg_30 : Lambda.Shape := ({ iface := "JumpHall$Deed", name := "in", sam := ({ parameters := [(FieldType.object "JumpHall$Hall")], returnType := (Option.some FieldType.int) } : MethodDescriptor), captured := [(FieldType.object "JumpHall$Command")], kind := 5, implClass := "JumpHall$Command", implName := "lambda$deed$4", implDesc := ({ parameters := [(FieldType.object "JumpHall$Hall")], returnType := (Option.some FieldType.int) } : MethodDescriptor), implItf := false, inst := ({ parameters := [(FieldType.object "JumpHall$Hall")], returnType := (Option.some FieldType.int) } : MethodDescriptor) } : Lambda.Shape)
def hc_30 : ByteArray := ⟨#[42, 180, 0, 15, 43, 182, 0, 22, 172]⟩
theorem hfb_30 : hfb sg_30 "JumpHall$Command" hc_30 .int [15] 22 19 = true := by decide +kernel
def sg_31 : Lambda.Shape := ({ iface := "JumpHall$Deed", name := "in", sam := ({ parameters := [(FieldType.object "JumpHall$Hall")], returnType := (Option.some FieldType.int) } : MethodDescriptor), captured := [(FieldType.object "JumpHall$Command")], kind := 5, implClass := "JumpHall$Command", implName := "lambda$deed$5", implDesc := ({ parameters := [(FieldType.object "JumpHall$Hall")], returnType := (Option.some FieldType.int) } : MethodDescriptor), implItf := false, inst := ({ parameters := [(FieldType.object "JumpHall$Hall")], returnType := (Option.some FieldType.int) } : MethodDescriptor) } : Lambda.Shape)
def hc_31 : ByteArray := ⟨#[42, 180, 0, 15, 43, 182, 0, 22, 172]⟩
theorem hfb_31 : hfb sg_31 "JumpHall$Command" hc_31 .int [15] 22 19 = true := by decide +kernel
def sg_32 : Lambda.Shape := ({ iface := "JumpHall$Deed", name := "in", sam := ({ parameters := [(FieldType.object "JumpHall$Hall")], returnType := (Option.some FieldType.int) } : MethodDescriptor), captured := [(FieldType.object "JumpHall$Command")], kind := 5, implClass := "JumpHall$Command", implName := "lambda$deed$6", implDesc := ({ parameters := [(FieldType.object "JumpHall$Hall")], returnType := (Option.some FieldType.int) } : MethodDescriptor), implItf := false, inst := ({ parameters := [(FieldType.object "JumpHall$Hall")], returnType := (Option.some FieldType.int) } : MethodDescriptor) } : Lambda.Shape)
def hc_32 : ByteArray := ⟨#[42, 180, 0, 15, 43, 182, 0, 22, 172]⟩
theorem hfb_32 : hfb sg_32 "JumpHall$Command" hc_32 .int [15] 22 19 = true := by decide +kernel
def SK (l : Launch) (s0 : State) (a0 : Array Value) (K : Nat → Nat) (lam : Nat → ClassId) : Prop := (va_Z "java/lang/Integer" "DigitOnes" "[B" (va_rf (some (K 8))) (fun q => K 2 ≤ q) s0 s0.heap) ∧
  (va_Z "java/lang/Integer" "DigitTens" "[B" (va_rf (some (K 9))) (fun q => K 2 ≤ q) s0 s0.heap) ∧
  (va_Z "java/lang/Integer$IntegerCache" "cache" "[Ljava/lang/Integer;" (va_rf (some (K 10))) (fun q => K 2 ≤ q) s0 s0.heap) ∧
  (va_Z "java/lang/Integer$IntegerCache" "high" "I" (.int (127 : Int32)) (fun q => K 2 ≤ q) s0 s0.heap) ∧
  (va_Z "java/lang/StrictMath" "$assertionsDisabled" "Z" (.int (1 : Int32)) (fun q => K 2 ≤ q) s0 s0.heap) ∧
  (va_Z "java/lang/String" "COMPACT_STRINGS" "Z" (.int (1 : Int32)) (fun q => K 2 ≤ q) s0 s0.heap) ∧
  (va_Z "java/lang/Throwable" "SUPPRESSED_SENTINEL" "Ljava/util/List;" (va_rf (kO (K 5))) (fun q => K 2 ≤ q) s0 s0.heap) ∧
  (va_Z "java/lang/Throwable" "UNASSIGNED_STACK" "[Ljava/lang/StackTraceElement;" (va_rf (kO (K 4))) (fun q => K 2 ≤ q) s0 s0.heap) ∧
  (va_Z "java/util/ArrayList" "DEFAULTCAPACITY_EMPTY_ELEMENTDATA" "[Ljava/lang/Object;" (va_rf (some (K 3))) (fun q => K 2 ≤ q) s0 s0.heap) ∧
  (va_Z "java/util/ImmutableCollections" "$assertionsDisabled" "Z" (.int (1 : Int32)) (fun q => K 2 ≤ q) s0 s0.heap) ∧
  (va_Z "jdk/internal/util/Preconditions" "SIOOBE_FORMATTER" "Ljava/util/function/BiFunction;" (va_rf (kO (K 7))) (fun q => K 2 ≤ q) s0 s0.heap) ∧
  (vk_R "JumpHall" 311 "x" (K 12) s0) ∧
  (vk_R "JumpHall" 313 "" (K 13) s0) ∧
  (vk_R "JumpHall$Command" 28 "up" (K 14) s0) ∧
  (vk_R "JumpHall$Command" 34 "down" (K 15) s0) ∧
  (vk_R "JumpHall$Command" 36 "sell" (K 16) s0) ∧
  (vk_R "JumpHall$Command" 38 "guard" (K 17) s0) ∧
  (vk_R "JumpHall$Command" 40 "fix" (K 18) s0) ∧
  (vk_R "JumpHall$Command" 42 "open" (K 19) s0) ∧
  (vk_R "JumpHall$Parser" 67 "up" (K 14) s0) ∧
  (vk_R "JumpHall$Parser" 69 "down" (K 15) s0) ∧
  (vk_R "JumpHall$Parser" 71 "sell" (K 16) s0) ∧
  (vk_R "JumpHall$Parser" 73 "guard" (K 17) s0) ∧
  (vk_R "JumpHall$Parser" 75 "fix" (K 18) s0) ∧
  (vk_R "JumpHall$Parser" 77 "open" (K 19) s0) ∧
  (vk_R "JumpHall$Parser" 79 "pass" (K 20) s0) ∧
  (va_Nc "JumpHall$Refusal" "JumpHall$BadText" s0) ∧
  (va_Nc "JumpHall$Refusal" "JumpHall$NotThere" s0) ∧
  (va_Nc "JumpHall$Refusal" "java/lang/ArithmeticException" s0) ∧
  (va_Nc "JumpHall$Refusal" "java/lang/IllegalArgumentException" s0) ∧
  (va_Nc "JumpHall$Refusal" "java/lang/IllegalStateException" s0) ∧
  (va_Nc "JumpHall$Refusal" "java/lang/IndexOutOfBoundsException" s0) ∧
  (va_Nc "JumpHall$Refusal" "java/lang/UnsupportedOperationException" s0) ∧
  (va_Nc "JumpHall$Refusal" "java/util/NoSuchElementException" s0) ∧
  (va_Nc "JumpHall$NotThere" "JumpHall$BadText" s0) ∧
  (va_Nc "JumpHall$NotThere" "JumpHall$Refusal" s0) ∧
  (va_Nc "JumpHall$NotThere" "java/lang/ArithmeticException" s0) ∧
  (va_Nc "JumpHall$NotThere" "java/lang/IllegalArgumentException" s0) ∧
  (va_Nc "JumpHall$NotThere" "java/lang/IllegalStateException" s0) ∧
  (va_Nc "JumpHall$NotThere" "java/lang/IndexOutOfBoundsException" s0) ∧
  (va_Nc "JumpHall$NotThere" "java/lang/UnsupportedOperationException" s0) ∧
  (va_Nc "JumpHall$NotThere" "java/util/NoSuchElementException" s0) ∧
  (va_Nc "JumpHall$BadText" "JumpHall$NotThere" s0) ∧
  (va_Nc "JumpHall$BadText" "JumpHall$Refusal" s0) ∧
  (va_Nc "JumpHall$BadText" "java/lang/ArithmeticException" s0) ∧
  (va_Nc "JumpHall$BadText" "java/lang/IllegalArgumentException" s0) ∧
  (va_Nc "JumpHall$BadText" "java/lang/IllegalStateException" s0) ∧
  (va_Nc "JumpHall$BadText" "java/lang/IndexOutOfBoundsException" s0) ∧
  (va_Nc "JumpHall$BadText" "java/lang/UnsupportedOperationException" s0) ∧
  (va_Nc "JumpHall$BadText" "java/util/NoSuchElementException" s0) ∧
  (va_Nc "java/lang/ArithmeticException" "JumpHall$BadText" s0) ∧
  (va_Nc "java/lang/ArithmeticException" "JumpHall$NotThere" s0) ∧
  (va_Nc "java/lang/ArithmeticException" "JumpHall$Refusal" s0) ∧
  (va_Nc "java/lang/ArithmeticException" "java/lang/IllegalArgumentException" s0) ∧
  (va_Nc "java/lang/ArithmeticException" "java/lang/IllegalStateException" s0) ∧
  (va_Nc "java/lang/ArithmeticException" "java/lang/IndexOutOfBoundsException" s0) ∧
  (va_Nc "java/lang/ArithmeticException" "java/lang/UnsupportedOperationException" s0) ∧
  (va_Nc "java/lang/ArithmeticException" "java/util/NoSuchElementException" s0) ∧
  (va_Nc "java/lang/IllegalArgumentException" "JumpHall$BadText" s0) ∧
  (va_Nc "java/lang/IllegalArgumentException" "JumpHall$NotThere" s0) ∧
  (va_Nc "java/lang/IllegalArgumentException" "JumpHall$Refusal" s0) ∧
  (va_Nc "java/lang/IllegalArgumentException" "java/lang/ArithmeticException" s0) ∧
  (va_Nc "java/lang/IllegalArgumentException" "java/lang/IllegalStateException" s0) ∧
  (va_Nc "java/lang/IllegalArgumentException" "java/lang/IndexOutOfBoundsException" s0) ∧
  (va_Nc "java/lang/IllegalArgumentException" "java/lang/UnsupportedOperationException" s0) ∧
  (va_Nc "java/lang/IllegalArgumentException" "java/util/NoSuchElementException" s0) ∧
  (va_Nc "java/lang/IllegalStateException" "JumpHall$BadText" s0) ∧
  (va_Nc "java/lang/IllegalStateException" "JumpHall$NotThere" s0) ∧
  (va_Nc "java/lang/IllegalStateException" "JumpHall$Refusal" s0) ∧
  (va_Nc "java/lang/IllegalStateException" "java/lang/ArithmeticException" s0) ∧
  (va_Nc "java/lang/IllegalStateException" "java/lang/IllegalArgumentException" s0) ∧
  (va_Nc "java/lang/IllegalStateException" "java/lang/IndexOutOfBoundsException" s0) ∧
  (va_Nc "java/lang/IllegalStateException" "java/lang/UnsupportedOperationException" s0) ∧
  (va_Nc "java/lang/IllegalStateException" "java/util/NoSuchElementException" s0) ∧
  (va_Nc "java/lang/IndexOutOfBoundsException" "JumpHall$BadText" s0) ∧
  (va_Nc "java/lang/IndexOutOfBoundsException" "JumpHall$NotThere" s0) ∧
  (va_Nc "java/lang/IndexOutOfBoundsException" "JumpHall$Refusal" s0) ∧
  (va_Nc "java/lang/IndexOutOfBoundsException" "java/lang/ArithmeticException" s0) ∧
  (va_Nc "java/lang/IndexOutOfBoundsException" "java/lang/IllegalArgumentException" s0) ∧
  (va_Nc "java/lang/IndexOutOfBoundsException" "java/lang/IllegalStateException" s0) ∧
  (va_Nc "java/lang/IndexOutOfBoundsException" "java/lang/UnsupportedOperationException" s0) ∧
  (va_Nc "java/lang/IndexOutOfBoundsException" "java/util/NoSuchElementException" s0) ∧
  (va_Nc "java/util/NoSuchElementException" "JumpHall$BadText" s0) ∧
  (va_Nc "java/util/NoSuchElementException" "JumpHall$NotThere" s0) ∧
  (va_Nc "java/util/NoSuchElementException" "JumpHall$Refusal" s0) ∧
  (va_Nc "java/util/NoSuchElementException" "java/lang/ArithmeticException" s0) ∧
  (va_Nc "java/util/NoSuchElementException" "java/lang/IllegalArgumentException" s0) ∧
  (va_Nc "java/util/NoSuchElementException" "java/lang/IllegalStateException" s0) ∧
  (va_Nc "java/util/NoSuchElementException" "java/lang/IndexOutOfBoundsException" s0) ∧
  (va_Nc "java/util/NoSuchElementException" "java/lang/UnsupportedOperationException" s0) ∧
  (va_Nc "java/lang/UnsupportedOperationException" "JumpHall$BadText" s0) ∧
  (va_Nc "java/lang/UnsupportedOperationException" "JumpHall$NotThere" s0) ∧
  (va_Nc "java/lang/UnsupportedOperationException" "JumpHall$Refusal" s0) ∧
  (va_Nc "java/lang/UnsupportedOperationException" "java/lang/ArithmeticException" s0) ∧
  (va_Nc "java/lang/UnsupportedOperationException" "java/lang/IllegalArgumentException" s0) ∧
  (va_Nc "java/lang/UnsupportedOperationException" "java/lang/IllegalStateException" s0) ∧
  (va_Nc "java/lang/UnsupportedOperationException" "java/lang/IndexOutOfBoundsException" s0) ∧
  (va_Nc "java/lang/UnsupportedOperationException" "java/util/NoSuchElementException" s0) ∧
  (va_Nc "java/util/HashMap$Node" "java/util/HashMap$TreeNode" s0) ∧
  (∀ cA, s0.vm.findClass ("[" ++ (aty 1001).toString) = some cA → va_RA s0 cA (aty 1001)) ∧
  (∀ cA, s0.vm.findClass ("[" ++ (aty 1002).toString) = some cA → va_RA s0 cA (aty 1002)) ∧
  (∀ cA, s0.vm.findClass ("[" ++ (aty 1003).toString) = some cA → va_RA s0 cA (aty 1003)) ∧
  (∀ cA, s0.vm.findClass ("[" ++ (aty 1004).toString) = some cA → va_RA s0 cA (aty 1004)) ∧
  (∀ cA, s0.vm.findClass ("[" ++ (aty 1005).toString) = some cA → va_RA s0 cA (aty 1005)) ∧
  (va_AO "java/lang/Object" s0) ∧
  (va_AO "java/util/HashMap$Node" s0) ∧
  (SI s0 lam 201 ⟨"JumpHall", "mat", "()I"⟩ 1 119 sg_1 (some (K 101))) ∧
  (SI s0 lam 202 ⟨"JumpHall", "fix", "(II)I"⟩ 32 126 sg_2 none) ∧
  (SI s0 lam 203 ⟨"JumpHall$Hall", "fix", "(II)I"⟩ 14 148 sg_3 none) ∧
  (SI s0 lam 204 ⟨"JumpHall", "open", "(I)I"⟩ 8 133 sg_4 none) ∧
  (SI s0 lam 205 ⟨"JumpHall", "matOf", "(II)I"⟩ 101 152 sg_5 none) ∧
  (SI s0 lam 206 ⟨"JumpHall$Hall", "weightOn", "(I)I"⟩ 2 112 sg_6 none) ∧
  (SI s0 lam 207 ⟨"JumpHall", "jumper", "(II)I"⟩ 31 184 sg_7 none) ∧
  (SI s0 lam 208 ⟨"JumpHall", "up", "(II)I"⟩ 33 185 sg_8 none) ∧
  (SI s0 lam 209 ⟨"JumpHall$Hall", "checkUp", "(LJumpHall$Jumper;I)V"⟩ 61 196 sg_9 none) ∧
  (SI s0 lam 210 ⟨"JumpHall$Hall", "checkUp", "(LJumpHall$Jumper;I)V"⟩ 72 197 sg_10 none) ∧
  (SI s0 lam 211 ⟨"JumpHall", "down", "(I)I"⟩ 8 190 sg_11 none) ∧
  (SI s0 lam 212 ⟨"JumpHall", "leave", "(I)I"⟩ 8 191 sg_12 none) ∧
  (SI s0 lam 213 ⟨"JumpHall$Hall", "leave", "(I)I"⟩ 38 223 sg_13 (some (K 113))) ∧
  (SI s0 lam 214 ⟨"JumpHall", "stock", "(III)I"⟩ 30 196 sg_14 none) ∧
  (SI s0 lam 215 ⟨"JumpHall", "sell", "(II)I"⟩ 18 199 sg_15 none) ∧
  (SI s0 lam 216 ⟨"JumpHall", "guard", "()I"⟩ 1 242 sg_16 (some (K 116))) ∧
  (SI s0 lam 217 ⟨"JumpHall", "place", "(II)I"⟩ 33 246 sg_17 none) ∧
  (SI s0 lam 218 ⟨"JumpHall", "book", "(IIII)I"⟩ 56 255 sg_18 none) ∧
  (SI s0 lam 219 ⟨"JumpHall", "cancel", "(I)I"⟩ 8 262 sg_19 none) ∧
  (SI s0 lam 220 ⟨"JumpHall", "pass", "(I)I"⟩ 12 276 sg_20 none) ∧
  (SI s0 lam 221 ⟨"JumpHall", "meanWeight", "()F"⟩ 4 325 sg_21 (some (K 121))) ∧
  (SI s0 lam 222 ⟨"JumpHall", "meanWeight", "()F"⟩ 21 331 sg_22 (some (K 122))) ∧
  (SI s0 lam 223 ⟨"JumpHall", "account", "(I)I"⟩ 151 341 sg_23 none) ∧
  (SI s0 lam 224 ⟨"JumpHall", "account", "(I)I"⟩ 166 342 sg_24 (some (K 124))) ∧
  (SI s0 lam 225 ⟨"JumpHall", "read", "()I"⟩ 22 376 sg_25 none) ∧
  (SI s0 lam 226 ⟨"JumpHall$Command", "deed", "(LJumpHall$Hall;)LJumpHall$Deed;"⟩ 219 57 sg_26 none) ∧
  (SI s0 lam 227 ⟨"JumpHall$Command", "deed", "(LJumpHall$Hall;)LJumpHall$Deed;"⟩ 237 61 sg_27 none) ∧
  (SI s0 lam 228 ⟨"JumpHall$Command", "deed", "(LJumpHall$Hall;)LJumpHall$Deed;"⟩ 271 62 sg_28 none) ∧
  (SI s0 lam 229 ⟨"JumpHall$Command", "deed", "(LJumpHall$Hall;)LJumpHall$Deed;"⟩ 308 66 sg_29 none) ∧
  (SI s0 lam 230 ⟨"JumpHall$Command", "deed", "(LJumpHall$Hall;)LJumpHall$Deed;"⟩ 343 67 sg_30 none) ∧
  (SI s0 lam 231 ⟨"JumpHall$Command", "deed", "(LJumpHall$Hall;)LJumpHall$Deed;"⟩ 361 68 sg_31 none) ∧
  (SI s0 lam 232 ⟨"JumpHall$Command", "deed", "(LJumpHall$Hall;)LJumpHall$Deed;"⟩ 381 73 sg_32 none) ∧
  ((Cond.methodLink "java/util/ImmutableCollections$AbstractImmutableList" (107 : Nat) ({ cls := "java/util/ImmutableCollections$AbstractImmutableList", name := "indexOf", desc := "(Ljava/lang/Object;)I" } : MethodName)).before a0 s0 = true) ∧
  ((Cond.sameMethod "java/util/ImmutableCollections$AbstractImmutableList" "java/util/List" "indexOf" "(Ljava/lang/Object;)I").before a0 s0 = true) ∧
  (va_Mi "[Ljava/lang/Object;" (K 11) s0)
def GA (l : Launch) (s0 : State) (a0 : Array Value) (K : Nat → Nat) (lam : Nat → ClassId) : Prop := GG l s0 a0 ∧ LY s0 a0 ∧ CA s0 ∧ SK l s0 a0 K lam
abbrev yL_law : MethodName := ⟨"JumpHallLaw", "law", "([I)Z"⟩
def WZL (r : Except Nat Int32 × AH) (l : Launch) (s0 : State) (a0 : Array Value) (K : Nat → Nat) (p : Program) (s : State) (m : MethodId) (c : Code) (cc : ByteArray) (own : String) (nL : Nat) (b : AH) (R : Room) (F Lo : Nat) (meth : Method) (_ : List (Nat × Nat × Nat × Nat)) (ret : Option FieldType) (_ : MethodName) : Prop := WX l s0 a0 K p s m c cc own nL b R F Lo ∧ (∀ q h, r ≠ (.error q, h)) ∧ meth.sig.returnType = ret ∧ meth.locks = false ∧ True ∧ True
section GAS
variable {l : Launch} {s0 : State} {a0 : Array Value} {K : Nat → Nat} {lam : Nat → ClassId}
theorem st_DigitOnes (GA : GA l s0 a0 K lam) : va_Z "java/lang/Integer" "DigitOnes" "[B" (va_rf (some (K 8))) (fun q => K 2 ≤ q) s0 s0.heap := GA.2.2.2.1
theorem st_DigitTens (GA : GA l s0 a0 K lam) : va_Z "java/lang/Integer" "DigitTens" "[B" (va_rf (some (K 9))) (fun q => K 2 ≤ q) s0 s0.heap := GA.2.2.2.2.1
theorem st_cache (GA : GA l s0 a0 K lam) : va_Z "java/lang/Integer$IntegerCache" "cache" "[Ljava/lang/Integer;" (va_rf (some (K 10))) (fun q => K 2 ≤ q) s0 s0.heap := GA.2.2.2.2.2.1
theorem st_high (GA : GA l s0 a0 K lam) : va_Z "java/lang/Integer$IntegerCache" "high" "I" (.int (127 : Int32)) (fun q => K 2 ≤ q) s0 s0.heap := GA.2.2.2.2.2.2.1
theorem st_java_lang_StrictMath (GA : GA l s0 a0 K lam) : va_Z "java/lang/StrictMath" "$assertionsDisabled" "Z" (.int (1 : Int32)) (fun q => K 2 ≤ q) s0 s0.heap := GA.2.2.2.2.2.2.2.1
theorem st_COMPACT_STRINGS (GA : GA l s0 a0 K lam) : va_Z "java/lang/String" "COMPACT_STRINGS" "Z" (.int (1 : Int32)) (fun q => K 2 ≤ q) s0 s0.heap := GA.2.2.2.2.2.2.2.2.1
theorem st_SUPPRESSED_SENTINEL (GA : GA l s0 a0 K lam) : va_Z "java/lang/Throwable" "SUPPRESSED_SENTINEL" "Ljava/util/List;" (va_rf (kO (K 5))) (fun q => K 2 ≤ q) s0 s0.heap := GA.2.2.2.2.2.2.2.2.2.1
theorem st_UNASSIGNED_STACK (GA : GA l s0 a0 K lam) : va_Z "java/lang/Throwable" "UNASSIGNED_STACK" "[Ljava/lang/StackTraceElement;" (va_rf (kO (K 4))) (fun q => K 2 ≤ q) s0 s0.heap := GA.2.2.2.2.2.2.2.2.2.2.1
theorem st_DEFAULTCAPACITY_EMPTY_ELEMENTDATA (GA : GA l s0 a0 K lam) : va_Z "java/util/ArrayList" "DEFAULTCAPACITY_EMPTY_ELEMENTDATA" "[Ljava/lang/Object;" (va_rf (some (K 3))) (fun q => K 2 ≤ q) s0 s0.heap := GA.2.2.2.2.2.2.2.2.2.2.2.1
theorem st_java_util_ImmutableCollections (GA : GA l s0 a0 K lam) : va_Z "java/util/ImmutableCollections" "$assertionsDisabled" "Z" (.int (1 : Int32)) (fun q => K 2 ≤ q) s0 s0.heap := GA.2.2.2.2.2.2.2.2.2.2.2.2.1
theorem st_SIOOBE_FORMATTER (GA : GA l s0 a0 K lam) : va_Z "jdk/internal/util/Preconditions" "SIOOBE_FORMATTER" "Ljava/util/function/BiFunction;" (va_rf (kO (K 7))) (fun q => K 2 ≤ q) s0 s0.heap := GA.2.2.2.2.2.2.2.2.2.2.2.2.2.1
theorem sr_H_311 (GA : GA l s0 a0 K lam) : vk_R "JumpHall" 311 "x" (K 12) s0 := GA.2.2.2.2.2.2.2.2.2.2.2.2.2.2.1
theorem sr_H_313 (GA : GA l s0 a0 K lam) : vk_R "JumpHall" 313 "" (K 13) s0 := GA.2.2.2.2.2.2.2.2.2.2.2.2.2.2.2.1
theorem sr_C_28 (GA : GA l s0 a0 K lam) : vk_R "JumpHall$Command" 28 "up" (K 14) s0 := GA.2.2.2.2.2.2.2.2.2.2.2.2.2.2.2.2.1
theorem sr_C_34 (GA : GA l s0 a0 K lam) : vk_R "JumpHall$Command" 34 "down" (K 15) s0 := GA.2.2.2.2.2.2.2.2.2.2.2.2.2.2.2.2.2.1
theorem sr_C_36 (GA : GA l s0 a0 K lam) : vk_R "JumpHall$Command" 36 "sell" (K 16) s0 := GA.2.2.2.2.2.2.2.2.2.2.2.2.2.2.2.2.2.2.1
theorem sr_C_38 (GA : GA l s0 a0 K lam) : vk_R "JumpHall$Command" 38 "guard" (K 17) s0 := GA.2.2.2.2.2.2.2.2.2.2.2.2.2.2.2.2.2.2.2.1
theorem sr_C_40 (GA : GA l s0 a0 K lam) : vk_R "JumpHall$Command" 40 "fix" (K 18) s0 := GA.2.2.2.2.2.2.2.2.2.2.2.2.2.2.2.2.2.2.2.2.1
theorem sr_C_42 (GA : GA l s0 a0 K lam) : vk_R "JumpHall$Command" 42 "open" (K 19) s0 := GA.2.2.2.2.2.2.2.2.2.2.2.2.2.2.2.2.2.2.2.2.2.1
theorem sr_P_67 (GA : GA l s0 a0 K lam) : vk_R "JumpHall$Parser" 67 "up" (K 14) s0 := GA.2.2.2.2.2.2.2.2.2.2.2.2.2.2.2.2.2.2.2.2.2.2.1
theorem sr_P_69 (GA : GA l s0 a0 K lam) : vk_R "JumpHall$Parser" 69 "down" (K 15) s0 := GA.2.2.2.2.2.2.2.2.2.2.2.2.2.2.2.2.2.2.2.2.2.2.2.1
theorem sr_P_71 (GA : GA l s0 a0 K lam) : vk_R "JumpHall$Parser" 71 "sell" (K 16) s0 := GA.2.2.2.2.2.2.2.2.2.2.2.2.2.2.2.2.2.2.2.2.2.2.2.2.1
theorem sr_P_73 (GA : GA l s0 a0 K lam) : vk_R "JumpHall$Parser" 73 "guard" (K 17) s0 := GA.2.2.2.2.2.2.2.2.2.2.2.2.2.2.2.2.2.2.2.2.2.2.2.2.2.1
theorem sr_P_75 (GA : GA l s0 a0 K lam) : vk_R "JumpHall$Parser" 75 "fix" (K 18) s0 := GA.2.2.2.2.2.2.2.2.2.2.2.2.2.2.2.2.2.2.2.2.2.2.2.2.2.2.1
theorem sr_P_77 (GA : GA l s0 a0 K lam) : vk_R "JumpHall$Parser" 77 "open" (K 19) s0 := GA.2.2.2.2.2.2.2.2.2.2.2.2.2.2.2.2.2.2.2.2.2.2.2.2.2.2.2.1
theorem sr_P_79 (GA : GA l s0 a0 K lam) : vk_R "JumpHall$Parser" 79 "pass" (K 20) s0 := GA.2.2.2.2.2.2.2.2.2.2.2.2.2.2.2.2.2.2.2.2.2.2.2.2.2.2.2.2.1
theorem nf_12_JumpHall_BadText (GA : GA l s0 a0 K lam) : va_Nc "JumpHall$Refusal" "JumpHall$BadText" s0 := GA.2.2.2.2.2.2.2.2.2.2.2.2.2.2.2.2.2.2.2.2.2.2.2.2.2.2.2.2.2.1
theorem nf_12_JumpHall_NotThere (GA : GA l s0 a0 K lam) : va_Nc "JumpHall$Refusal" "JumpHall$NotThere" s0 := GA.2.2.2.2.2.2.2.2.2.2.2.2.2.2.2.2.2.2.2.2.2.2.2.2.2.2.2.2.2.2.1
theorem nf_12_java_lang_ArithmeticException (GA : GA l s0 a0 K lam) : va_Nc "JumpHall$Refusal" "java/lang/ArithmeticException" s0 := GA.2.2.2.2.2.2.2.2.2.2.2.2.2.2.2.2.2.2.2.2.2.2.2.2.2.2.2.2.2.2.2.1
theorem nf_12_java_lang_IllegalArgumentException (GA : GA l s0 a0 K lam) : va_Nc "JumpHall$Refusal" "java/lang/IllegalArgumentException" s0 := GA.2.2.2.2.2.2.2.2.2.2.2.2.2.2.2.2.2.2.2.2.2.2.2.2.2.2.2.2.2.2.2.2.1
theorem nf_12_java_lang_IllegalStateException (GA : GA l s0 a0 K lam) : va_Nc "JumpHall$Refusal" "java/lang/IllegalStateException" s0 := GA.2.2.2.2.2.2.2.2.2.2.2.2.2.2.2.2.2.2.2.2.2.2.2.2.2.2.2.2.2.2.2.2.2.1
theorem nf_12_java_lang_IndexOutOfBoundsException (GA : GA l s0 a0 K lam) : va_Nc "JumpHall$Refusal" "java/lang/IndexOutOfBoundsException" s0 := GA.2.2.2.2.2.2.2.2.2.2.2.2.2.2.2.2.2.2.2.2.2.2.2.2.2.2.2.2.2.2.2.2.2.2.1
theorem nf_12_java_lang_UnsupportedOperationException (GA : GA l s0 a0 K lam) : va_Nc "JumpHall$Refusal" "java/lang/UnsupportedOperationException" s0 := GA.2.2.2.2.2.2.2.2.2.2.2.2.2.2.2.2.2.2.2.2.2.2.2.2.2.2.2.2.2.2.2.2.2.2.2.1
theorem nf_12_java_util_NoSuchElementException (GA : GA l s0 a0 K lam) : va_Nc "JumpHall$Refusal" "java/util/NoSuchElementException" s0 := GA.2.2.2.2.2.2.2.2.2.2.2.2.2.2.2.2.2.2.2.2.2.2.2.2.2.2.2.2.2.2.2.2.2.2.2.2.1
theorem nf_13_JumpHall_BadText (GA : GA l s0 a0 K lam) : va_Nc "JumpHall$NotThere" "JumpHall$BadText" s0 := GA.2.2.2.2.2.2.2.2.2.2.2.2.2.2.2.2.2.2.2.2.2.2.2.2.2.2.2.2.2.2.2.2.2.2.2.2.2.1
theorem nf_13_JumpHall_Refusal (GA : GA l s0 a0 K lam) : va_Nc "JumpHall$NotThere" "JumpHall$Refusal" s0 := GA.2.2.2.2.2.2.2.2.2.2.2.2.2.2.2.2.2.2.2.2.2.2.2.2.2.2.2.2.2.2.2.2.2.2.2.2.2.2.1
theorem nf_13_java_lang_ArithmeticException (GA : GA l s0 a0 K lam) : va_Nc "JumpHall$NotThere" "java/lang/ArithmeticException" s0 := GA.2.2.2.2.2.2.2.2.2.2.2.2.2.2.2.2.2.2.2.2.2.2.2.2.2.2.2.2.2.2.2.2.2.2.2.2.2.2.2.1
theorem nf_13_java_lang_IllegalArgumentException (GA : GA l s0 a0 K lam) : va_Nc "JumpHall$NotThere" "java/lang/IllegalArgumentException" s0 := GA.2.2.2.2.2.2.2.2.2.2.2.2.2.2.2.2.2.2.2.2.2.2.2.2.2.2.2.2.2.2.2.2.2.2.2.2.2.2.2.2.1
theorem nf_13_java_lang_IllegalStateException (GA : GA l s0 a0 K lam) : va_Nc "JumpHall$NotThere" "java/lang/IllegalStateException" s0 := GA.2.2.2.2.2.2.2.2.2.2.2.2.2.2.2.2.2.2.2.2.2.2.2.2.2.2.2.2.2.2.2.2.2.2.2.2.2.2.2.2.2.1
theorem nf_13_java_lang_IndexOutOfBoundsException (GA : GA l s0 a0 K lam) : va_Nc "JumpHall$NotThere" "java/lang/IndexOutOfBoundsException" s0 := GA.2.2.2.2.2.2.2.2.2.2.2.2.2.2.2.2.2.2.2.2.2.2.2.2.2.2.2.2.2.2.2.2.2.2.2.2.2.2.2.2.2.2.1
theorem nf_13_java_lang_UnsupportedOperationException (GA : GA l s0 a0 K lam) : va_Nc "JumpHall$NotThere" "java/lang/UnsupportedOperationException" s0 := GA.2.2.2.2.2.2.2.2.2.2.2.2.2.2.2.2.2.2.2.2.2.2.2.2.2.2.2.2.2.2.2.2.2.2.2.2.2.2.2.2.2.2.2.1
theorem nf_13_java_util_NoSuchElementException (GA : GA l s0 a0 K lam) : va_Nc "JumpHall$NotThere" "java/util/NoSuchElementException" s0 := GA.2.2.2.2.2.2.2.2.2.2.2.2.2.2.2.2.2.2.2.2.2.2.2.2.2.2.2.2.2.2.2.2.2.2.2.2.2.2.2.2.2.2.2.2.1
theorem nf_14_JumpHall_NotThere (GA : GA l s0 a0 K lam) : va_Nc "JumpHall$BadText" "JumpHall$NotThere" s0 := GA.2.2.2.2.2.2.2.2.2.2.2.2.2.2.2.2.2.2.2.2.2.2.2.2.2.2.2.2.2.2.2.2.2.2.2.2.2.2.2.2.2.2.2.2.2.1
theorem nf_14_JumpHall_Refusal (GA : GA l s0 a0 K lam) : va_Nc "JumpHall$BadText" "JumpHall$Refusal" s0 := GA.2.2.2.2.2.2.2.2.2.2.2.2.2.2.2.2.2.2.2.2.2.2.2.2.2.2.2.2.2.2.2.2.2.2.2.2.2.2.2.2.2.2.2.2.2.2.1
theorem nf_14_java_lang_ArithmeticException (GA : GA l s0 a0 K lam) : va_Nc "JumpHall$BadText" "java/lang/ArithmeticException" s0 := GA.2.2.2.2.2.2.2.2.2.2.2.2.2.2.2.2.2.2.2.2.2.2.2.2.2.2.2.2.2.2.2.2.2.2.2.2.2.2.2.2.2.2.2.2.2.2.2.1
theorem nf_14_java_lang_IllegalArgumentException (GA : GA l s0 a0 K lam) : va_Nc "JumpHall$BadText" "java/lang/IllegalArgumentException" s0 := GA.2.2.2.2.2.2.2.2.2.2.2.2.2.2.2.2.2.2.2.2.2.2.2.2.2.2.2.2.2.2.2.2.2.2.2.2.2.2.2.2.2.2.2.2.2.2.2.2.1
theorem nf_14_java_lang_IllegalStateException (GA : GA l s0 a0 K lam) : va_Nc "JumpHall$BadText" "java/lang/IllegalStateException" s0 := GA.2.2.2.2.2.2.2.2.2.2.2.2.2.2.2.2.2.2.2.2.2.2.2.2.2.2.2.2.2.2.2.2.2.2.2.2.2.2.2.2.2.2.2.2.2.2.2.2.2.1
theorem nf_14_java_lang_IndexOutOfBoundsException (GA : GA l s0 a0 K lam) : va_Nc "JumpHall$BadText" "java/lang/IndexOutOfBoundsException" s0 := GA.2.2.2.2.2.2.2.2.2.2.2.2.2.2.2.2.2.2.2.2.2.2.2.2.2.2.2.2.2.2.2.2.2.2.2.2.2.2.2.2.2.2.2.2.2.2.2.2.2.2.1
theorem nf_14_java_lang_UnsupportedOperationException (GA : GA l s0 a0 K lam) : va_Nc "JumpHall$BadText" "java/lang/UnsupportedOperationException" s0 := GA.2.2.2.2.2.2.2.2.2.2.2.2.2.2.2.2.2.2.2.2.2.2.2.2.2.2.2.2.2.2.2.2.2.2.2.2.2.2.2.2.2.2.2.2.2.2.2.2.2.2.2.1
theorem nf_14_java_util_NoSuchElementException (GA : GA l s0 a0 K lam) : va_Nc "JumpHall$BadText" "java/util/NoSuchElementException" s0 := GA.2.2.2.2.2.2.2.2.2.2.2.2.2.2.2.2.2.2.2.2.2.2.2.2.2.2.2.2.2.2.2.2.2.2.2.2.2.2.2.2.2.2.2.2.2.2.2.2.2.2.2.2.1
theorem nf_16_JumpHall_BadText (GA : GA l s0 a0 K lam) : va_Nc "java/lang/ArithmeticException" "JumpHall$BadText" s0 := GA.2.2.2.2.2.2.2.2.2.2.2.2.2.2.2.2.2.2.2.2.2.2.2.2.2.2.2.2.2.2.2.2.2.2.2.2.2.2.2.2.2.2.2.2.2.2.2.2.2.2.2.2.2.1
theorem nf_16_JumpHall_NotThere (GA : GA l s0 a0 K lam) : va_Nc "java/lang/ArithmeticException" "JumpHall$NotThere" s0 := GA.2.2.2.2.2.2.2.2.2.2.2.2.2.2.2.2.2.2.2.2.2.2.2.2.2.2.2.2.2.2.2.2.2.2.2.2.2.2.2.2.2.2.2.2.2.2.2.2.2.2.2.2.2.2.1
theorem nf_16_JumpHall_Refusal (GA : GA l s0 a0 K lam) : va_Nc "java/lang/ArithmeticException" "JumpHall$Refusal" s0 := GA.2.2.2.2.2.2.2.2.2.2.2.2.2.2.2.2.2.2.2.2.2.2.2.2.2.2.2.2.2.2.2.2.2.2.2.2.2.2.2.2.2.2.2.2.2.2.2.2.2.2.2.2.2.2.2.1
theorem nf_16_java_lang_IllegalArgumentException (GA : GA l s0 a0 K lam) : va_Nc "java/lang/ArithmeticException" "java/lang/IllegalArgumentException" s0 := GA.2.2.2.2.2.2.2.2.2.2.2.2.2.2.2.2.2.2.2.2.2.2.2.2.2.2.2.2.2.2.2.2.2.2.2.2.2.2.2.2.2.2.2.2.2.2.2.2.2.2.2.2.2.2.2.2.1
theorem nf_16_java_lang_IllegalStateException (GA : GA l s0 a0 K lam) : va_Nc "java/lang/ArithmeticException" "java/lang/IllegalStateException" s0 := GA.2.2.2.2.2.2.2.2.2.2.2.2.2.2.2.2.2.2.2.2.2.2.2.2.2.2.2.2.2.2.2.2.2.2.2.2.2.2.2.2.2.2.2.2.2.2.2.2.2.2.2.2.2.2.2.2.2.1
theorem nf_16_java_lang_IndexOutOfBoundsException (GA : GA l s0 a0 K lam) : va_Nc "java/lang/ArithmeticException" "java/lang/IndexOutOfBoundsException" s0 := GA.2.2.2.2.2.2.2.2.2.2.2.2.2.2.2.2.2.2.2.2.2.2.2.2.2.2.2.2.2.2.2.2.2.2.2.2.2.2.2.2.2.2.2.2.2.2.2.2.2.2.2.2.2.2.2.2.2.2.1
theorem nf_16_java_lang_UnsupportedOperationException (GA : GA l s0 a0 K lam) : va_Nc "java/lang/ArithmeticException" "java/lang/UnsupportedOperationException" s0 := GA.2.2.2.2.2.2.2.2.2.2.2.2.2.2.2.2.2.2.2.2.2.2.2.2.2.2.2.2.2.2.2.2.2.2.2.2.2.2.2.2.2.2.2.2.2.2.2.2.2.2.2.2.2.2.2.2.2.2.2.1
theorem nf_16_java_util_NoSuchElementException (GA : GA l s0 a0 K lam) : va_Nc "java/lang/ArithmeticException" "java/util/NoSuchElementException" s0 := GA.2.2.2.2.2.2.2.2.2.2.2.2.2.2.2.2.2.2.2.2.2.2.2.2.2.2.2.2.2.2.2.2.2.2.2.2.2.2.2.2.2.2.2.2.2.2.2.2.2.2.2.2.2.2.2.2.2.2.2.2.1
theorem nf_17_JumpHall_BadText (GA : GA l s0 a0 K lam) : va_Nc "java/lang/IllegalArgumentException" "JumpHall$BadText" s0 := GA.2.2.2.2.2.2.2.2.2.2.2.2.2.2.2.2.2.2.2.2.2.2.2.2.2.2.2.2.2.2.2.2.2.2.2.2.2.2.2.2.2.2.2.2.2.2.2.2.2.2.2.2.2.2.2.2.2.2.2.2.2.1
theorem nf_17_JumpHall_NotThere (GA : GA l s0 a0 K lam) : va_Nc "java/lang/IllegalArgumentException" "JumpHall$NotThere" s0 := GA.2.2.2.2.2.2.2.2.2.2.2.2.2.2.2.2.2.2.2.2.2.2.2.2.2.2.2.2.2.2.2.2.2.2.2.2.2.2.2.2.2.2.2.2.2.2.2.2.2.2.2.2.2.2.2.2.2.2.2.2.2.2.1
theorem nf_17_JumpHall_Refusal (GA : GA l s0 a0 K lam) : va_Nc "java/lang/IllegalArgumentException" "JumpHall$Refusal" s0 := GA.2.2.2.2.2.2.2.2.2.2.2.2.2.2.2.2.2.2.2.2.2.2.2.2.2.2.2.2.2.2.2.2.2.2.2.2.2.2.2.2.2.2.2.2.2.2.2.2.2.2.2.2.2.2.2.2.2.2.2.2.2.2.2.1
theorem nf_17_java_lang_ArithmeticException (GA : GA l s0 a0 K lam) : va_Nc "java/lang/IllegalArgumentException" "java/lang/ArithmeticException" s0 := GA.2.2.2.2.2.2.2.2.2.2.2.2.2.2.2.2.2.2.2.2.2.2.2.2.2.2.2.2.2.2.2.2.2.2.2.2.2.2.2.2.2.2.2.2.2.2.2.2.2.2.2.2.2.2.2.2.2.2.2.2.2.2.2.2.1
theorem nf_17_java_lang_IllegalStateException (GA : GA l s0 a0 K lam) : va_Nc "java/lang/IllegalArgumentException" "java/lang/IllegalStateException" s0 := GA.2.2.2.2.2.2.2.2.2.2.2.2.2.2.2.2.2.2.2.2.2.2.2.2.2.2.2.2.2.2.2.2.2.2.2.2.2.2.2.2.2.2.2.2.2.2.2.2.2.2.2.2.2.2.2.2.2.2.2.2.2.2.2.2.2.1
theorem nf_17_java_lang_IndexOutOfBoundsException (GA : GA l s0 a0 K lam) : va_Nc "java/lang/IllegalArgumentException" "java/lang/IndexOutOfBoundsException" s0 := GA.2.2.2.2.2.2.2.2.2.2.2.2.2.2.2.2.2.2.2.2.2.2.2.2.2.2.2.2.2.2.2.2.2.2.2.2.2.2.2.2.2.2.2.2.2.2.2.2.2.2.2.2.2.2.2.2.2.2.2.2.2.2.2.2.2.2.1
theorem nf_17_java_lang_UnsupportedOperationException (GA : GA l s0 a0 K lam) : va_Nc "java/lang/IllegalArgumentException" "java/lang/UnsupportedOperationException" s0 := GA.2.2.2.2.2.2.2.2.2.2.2.2.2.2.2.2.2.2.2.2.2.2.2.2.2.2.2.2.2.2.2.2.2.2.2.2.2.2.2.2.2.2.2.2.2.2.2.2.2.2.2.2.2.2.2.2.2.2.2.2.2.2.2.2.2.2.2.1
theorem nf_17_java_util_NoSuchElementException (GA : GA l s0 a0 K lam) : va_Nc "java/lang/IllegalArgumentException" "java/util/NoSuchElementException" s0 := GA.2.2.2.2.2.2.2.2.2.2.2.2.2.2.2.2.2.2.2.2.2.2.2.2.2.2.2.2.2.2.2.2.2.2.2.2.2.2.2.2.2.2.2.2.2.2.2.2.2.2.2.2.2.2.2.2.2.2.2.2.2.2.2.2.2.2.2.2.1
theorem nf_18_JumpHall_BadText (GA : GA l s0 a0 K lam) : va_Nc "java/lang/IllegalStateException" "JumpHall$BadText" s0 := GA.2.2.2.2.2.2.2.2.2.2.2.2.2.2.2.2.2.2.2.2.2.2.2.2.2.2.2.2.2.2.2.2.2.2.2.2.2.2.2.2.2.2.2.2.2.2.2.2.2.2.2.2.2.2.2.2.2.2.2.2.2.2.2.2.2.2.2.2.2.1
theorem nf_18_JumpHall_NotThere (GA : GA l s0 a0 K lam) : va_Nc "java/lang/IllegalStateException" "JumpHall$NotThere" s0 := GA.2.2.2.2.2.2.2.2.2.2.2.2.2.2.2.2.2.2.2.2.2.2.2.2.2.2.2.2.2.2.2.2.2.2.2.2.2.2.2.2.2.2.2.2.2.2.2.2.2.2.2.2.2.2.2.2.2.2.2.2.2.2.2.2.2.2.2.2.2.2.1
theorem nf_18_JumpHall_Refusal (GA : GA l s0 a0 K lam) : va_Nc "java/lang/IllegalStateException" "JumpHall$Refusal" s0 := GA.2.2.2.2.2.2.2.2.2.2.2.2.2.2.2.2.2.2.2.2.2.2.2.2.2.2.2.2.2.2.2.2.2.2.2.2.2.2.2.2.2.2.2.2.2.2.2.2.2.2.2.2.2.2.2.2.2.2.2.2.2.2.2.2.2.2.2.2.2.2.2.1
theorem nf_18_java_lang_ArithmeticException (GA : GA l s0 a0 K lam) : va_Nc "java/lang/IllegalStateException" "java/lang/ArithmeticException" s0 := GA.2.2.2.2.2.2.2.2.2.2.2.2.2.2.2.2.2.2.2.2.2.2.2.2.2.2.2.2.2.2.2.2.2.2.2.2.2.2.2.2.2.2.2.2.2.2.2.2.2.2.2.2.2.2.2.2.2.2.2.2.2.2.2.2.2.2.2.2.2.2.2.2.1
theorem nf_18_java_lang_IllegalArgumentException (GA : GA l s0 a0 K lam) : va_Nc "java/lang/IllegalStateException" "java/lang/IllegalArgumentException" s0 := GA.2.2.2.2.2.2.2.2.2.2.2.2.2.2.2.2.2.2.2.2.2.2.2.2.2.2.2.2.2.2.2.2.2.2.2.2.2.2.2.2.2.2.2.2.2.2.2.2.2.2.2.2.2.2.2.2.2.2.2.2.2.2.2.2.2.2.2.2.2.2.2.2.2.1
theorem nf_18_java_lang_IndexOutOfBoundsException (GA : GA l s0 a0 K lam) : va_Nc "java/lang/IllegalStateException" "java/lang/IndexOutOfBoundsException" s0 := GA.2.2.2.2.2.2.2.2.2.2.2.2.2.2.2.2.2.2.2.2.2.2.2.2.2.2.2.2.2.2.2.2.2.2.2.2.2.2.2.2.2.2.2.2.2.2.2.2.2.2.2.2.2.2.2.2.2.2.2.2.2.2.2.2.2.2.2.2.2.2.2.2.2.2.1
theorem nf_18_java_lang_UnsupportedOperationException (GA : GA l s0 a0 K lam) : va_Nc "java/lang/IllegalStateException" "java/lang/UnsupportedOperationException" s0 := GA.2.2.2.2.2.2.2.2.2.2.2.2.2.2.2.2.2.2.2.2.2.2.2.2.2.2.2.2.2.2.2.2.2.2.2.2.2.2.2.2.2.2.2.2.2.2.2.2.2.2.2.2.2.2.2.2.2.2.2.2.2.2.2.2.2.2.2.2.2.2.2.2.2.2.2.1
theorem nf_18_java_util_NoSuchElementException (GA : GA l s0 a0 K lam) : va_Nc "java/lang/IllegalStateException" "java/util/NoSuchElementException" s0 := GA.2.2.2.2.2.2.2.2.2.2.2.2.2.2.2.2.2.2.2.2.2.2.2.2.2.2.2.2.2.2.2.2.2.2.2.2.2.2.2.2.2.2.2.2.2.2.2.2.2.2.2.2.2.2.2.2.2.2.2.2.2.2.2.2.2.2.2.2.2.2.2.2.2.2.2.2.1
theorem nf_19_JumpHall_BadText (GA : GA l s0 a0 K lam) : va_Nc "java/lang/IndexOutOfBoundsException" "JumpHall$BadText" s0 := GA.2.2.2.2.2.2.2.2.2.2.2.2.2.2.2.2.2.2.2.2.2.2.2.2.2.2.2.2.2.2.2.2.2.2.2.2.2.2.2.2.2.2.2.2.2.2.2.2.2.2.2.2.2.2.2.2.2.2.2.2.2.2.2.2.2.2.2.2.2.2.2.2.2.2.2.2.2.1
theorem nf_19_JumpHall_NotThere (GA : GA l s0 a0 K lam) : va_Nc "java/lang/IndexOutOfBoundsException" "JumpHall$NotThere" s0 := GA.2.2.2.2.2.2.2.2.2.2.2.2.2.2.2.2.2.2.2.2.2.2.2.2.2.2.2.2.2.2.2.2.2.2.2.2.2.2.2.2.2.2.2.2.2.2.2.2.2.2.2.2.2.2.2.2.2.2.2.2.2.2.2.2.2.2.2.2.2.2.2.2.2.2.2.2.2.2.1
theorem nf_19_JumpHall_Refusal (GA : GA l s0 a0 K lam) : va_Nc "java/lang/IndexOutOfBoundsException" "JumpHall$Refusal" s0 := GA.2.2.2.2.2.2.2.2.2.2.2.2.2.2.2.2.2.2.2.2.2.2.2.2.2.2.2.2.2.2.2.2.2.2.2.2.2.2.2.2.2.2.2.2.2.2.2.2.2.2.2.2.2.2.2.2.2.2.2.2.2.2.2.2.2.2.2.2.2.2.2.2.2.2.2.2.2.2.2.1
theorem nf_19_java_lang_ArithmeticException (GA : GA l s0 a0 K lam) : va_Nc "java/lang/IndexOutOfBoundsException" "java/lang/ArithmeticException" s0 := GA.2.2.2.2.2.2.2.2.2.2.2.2.2.2.2.2.2.2.2.2.2.2.2.2.2.2.2.2.2.2.2.2.2.2.2.2.2.2.2.2.2.2.2.2.2.2.2.2.2.2.2.2.2.2.2.2.2.2.2.2.2.2.2.2.2.2.2.2.2.2.2.2.2.2.2.2.2.2.2.2.1
theorem nf_19_java_lang_IllegalArgumentException (GA : GA l s0 a0 K lam) : va_Nc "java/lang/IndexOutOfBoundsException" "java/lang/IllegalArgumentException" s0 := GA.2.2.2.2.2.2.2.2.2.2.2.2.2.2.2.2.2.2.2.2.2.2.2.2.2.2.2.2.2.2.2.2.2.2.2.2.2.2.2.2.2.2.2.2.2.2.2.2.2.2.2.2.2.2.2.2.2.2.2.2.2.2.2.2.2.2.2.2.2.2.2.2.2.2.2.2.2.2.2.2.2.1
theorem nf_19_java_lang_IllegalStateException (GA : GA l s0 a0 K lam) : va_Nc "java/lang/IndexOutOfBoundsException" "java/lang/IllegalStateException" s0 := GA.2.2.2.2.2.2.2.2.2.2.2.2.2.2.2.2.2.2.2.2.2.2.2.2.2.2.2.2.2.2.2.2.2.2.2.2.2.2.2.2.2.2.2.2.2.2.2.2.2.2.2.2.2.2.2.2.2.2.2.2.2.2.2.2.2.2.2.2.2.2.2.2.2.2.2.2.2.2.2.2.2.2.1
theorem nf_19_java_lang_UnsupportedOperationException (GA : GA l s0 a0 K lam) : va_Nc "java/lang/IndexOutOfBoundsException" "java/lang/UnsupportedOperationException" s0 := GA.2.2.2.2.2.2.2.2.2.2.2.2.2.2.2.2.2.2.2.2.2.2.2.2.2.2.2.2.2.2.2.2.2.2.2.2.2.2.2.2.2.2.2.2.2.2.2.2.2.2.2.2.2.2.2.2.2.2.2.2.2.2.2.2.2.2.2.2.2.2.2.2.2.2.2.2.2.2.2.2.2.2.2.1
theorem nf_19_java_util_NoSuchElementException (GA : GA l s0 a0 K lam) : va_Nc "java/lang/IndexOutOfBoundsException" "java/util/NoSuchElementException" s0 := GA.2.2.2.2.2.2.2.2.2.2.2.2.2.2.2.2.2.2.2.2.2.2.2.2.2.2.2.2.2.2.2.2.2.2.2.2.2.2.2.2.2.2.2.2.2.2.2.2.2.2.2.2.2.2.2.2.2.2.2.2.2.2.2.2.2.2.2.2.2.2.2.2.2.2.2.2.2.2.2.2.2.2.2.2.1
theorem nf_20_JumpHall_BadText (GA : GA l s0 a0 K lam) : va_Nc "java/util/NoSuchElementException" "JumpHall$BadText" s0 := GA.2.2.2.2.2.2.2.2.2.2.2.2.2.2.2.2.2.2.2.2.2.2.2.2.2.2.2.2.2.2.2.2.2.2.2.2.2.2.2.2.2.2.2.2.2.2.2.2.2.2.2.2.2.2.2.2.2.2.2.2.2.2.2.2.2.2.2.2.2.2.2.2.2.2.2.2.2.2.2.2.2.2.2.2.2.1
theorem nf_20_JumpHall_NotThere (GA : GA l s0 a0 K lam) : va_Nc "java/util/NoSuchElementException" "JumpHall$NotThere" s0 := GA.2.2.2.2.2.2.2.2.2.2.2.2.2.2.2.2.2.2.2.2.2.2.2.2.2.2.2.2.2.2.2.2.2.2.2.2.2.2.2.2.2.2.2.2.2.2.2.2.2.2.2.2.2.2.2.2.2.2.2.2.2.2.2.2.2.2.2.2.2.2.2.2.2.2.2.2.2.2.2.2.2.2.2.2.2.2.1
theorem nf_20_JumpHall_Refusal (GA : GA l s0 a0 K lam) : va_Nc "java/util/NoSuchElementException" "JumpHall$Refusal" s0 := GA.2.2.2.2.2.2.2.2.2.2.2.2.2.2.2.2.2.2.2.2.2.2.2.2.2.2.2.2.2.2.2.2.2.2.2.2.2.2.2.2.2.2.2.2.2.2.2.2.2.2.2.2.2.2.2.2.2.2.2.2.2.2.2.2.2.2.2.2.2.2.2.2.2.2.2.2.2.2.2.2.2.2.2.2.2.2.2.1
theorem nf_20_java_lang_ArithmeticException (GA : GA l s0 a0 K lam) : va_Nc "java/util/NoSuchElementException" "java/lang/ArithmeticException" s0 := GA.2.2.2.2.2.2.2.2.2.2.2.2.2.2.2.2.2.2.2.2.2.2.2.2.2.2.2.2.2.2.2.2.2.2.2.2.2.2.2.2.2.2.2.2.2.2.2.2.2.2.2.2.2.2.2.2.2.2.2.2.2.2.2.2.2.2.2.2.2.2.2.2.2.2.2.2.2.2.2.2.2.2.2.2.2.2.2.2.1
theorem nf_20_java_lang_IllegalArgumentException (GA : GA l s0 a0 K lam) : va_Nc "java/util/NoSuchElementException" "java/lang/IllegalArgumentException" s0 := GA.2.2.2.2.2.2.2.2.2.2.2.2.2.2.2.2.2.2.2.2.2.2.2.2.2.2.2.2.2.2.2.2.2.2.2.2.2.2.2.2.2.2.2.2.2.2.2.2.2.2.2.2.2.2.2.2.2.2.2.2.2.2.2.2.2.2.2.2.2.2.2.2.2.2.2.2.2.2.2.2.2.2.2.2.2.2.2.2.2.1
theorem nf_20_java_lang_IllegalStateException (GA : GA l s0 a0 K lam) : va_Nc "java/util/NoSuchElementException" "java/lang/IllegalStateException" s0 := GA.2.2.2.2.2.2.2.2.2.2.2.2.2.2.2.2.2.2.2.2.2.2.2.2.2.2.2.2.2.2.2.2.2.2.2.2.2.2.2.2.2.2.2.2.2.2.2.2.2.2.2.2.2.2.2.2.2.2.2.2.2.2.2.2.2.2.2.2.2.2.2.2.2.2.2.2.2.2.2.2.2.2.2.2.2.2.2.2.2.2.1
theorem nf_20_java_lang_IndexOutOfBoundsException (GA : GA l s0 a0 K lam) : va_Nc "java/util/NoSuchElementException" "java/lang/IndexOutOfBoundsException" s0 := GA.2.2.2.2.2.2.2.2.2.2.2.2.2.2.2.2.2.2.2.2.2.2.2.2.2.2.2.2.2.2.2.2.2.2.2.2.2.2.2.2.2.2.2.2.2.2.2.2.2.2.2.2.2.2.2.2.2.2.2.2.2.2.2.2.2.2.2.2.2.2.2.2.2.2.2.2.2.2.2.2.2.2.2.2.2.2.2.2.2.2.2.1
theorem nf_20_java_lang_UnsupportedOperationException (GA : GA l s0 a0 K lam) : va_Nc "java/util/NoSuchElementException" "java/lang/UnsupportedOperationException" s0 := GA.2.2.2.2.2.2.2.2.2.2.2.2.2.2.2.2.2.2.2.2.2.2.2.2.2.2.2.2.2.2.2.2.2.2.2.2.2.2.2.2.2.2.2.2.2.2.2.2.2.2.2.2.2.2.2.2.2.2.2.2.2.2.2.2.2.2.2.2.2.2.2.2.2.2.2.2.2.2.2.2.2.2.2.2.2.2.2.2.2.2.2.2.1
theorem nf_21_JumpHall_BadText (GA : GA l s0 a0 K lam) : va_Nc "java/lang/UnsupportedOperationException" "JumpHall$BadText" s0 := GA.2.2.2.2.2.2.2.2.2.2.2.2.2.2.2.2.2.2.2.2.2.2.2.2.2.2.2.2.2.2.2.2.2.2.2.2.2.2.2.2.2.2.2.2.2.2.2.2.2.2.2.2.2.2.2.2.2.2.2.2.2.2.2.2.2.2.2.2.2.2.2.2.2.2.2.2.2.2.2.2.2.2.2.2.2.2.2.2.2.2.2.2.2.1
theorem nf_21_JumpHall_NotThere (GA : GA l s0 a0 K lam) : va_Nc "java/lang/UnsupportedOperationException" "JumpHall$NotThere" s0 := GA.2.2.2.2.2.2.2.2.2.2.2.2.2.2.2.2.2.2.2.2.2.2.2.2.2.2.2.2.2.2.2.2.2.2.2.2.2.2.2.2.2.2.2.2.2.2.2.2.2.2.2.2.2.2.2.2.2.2.2.2.2.2.2.2.2.2.2.2.2.2.2.2.2.2.2.2.2.2.2.2.2.2.2.2.2.2.2.2.2.2.2.2.2.2.1
theorem nf_21_JumpHall_Refusal (GA : GA l s0 a0 K lam) : va_Nc "java/lang/UnsupportedOperationException" "JumpHall$Refusal" s0 := GA.2.2.2.2.2.2.2.2.2.2.2.2.2.2.2.2.2.2.2.2.2.2.2.2.2.2.2.2.2.2.2.2.2.2.2.2.2.2.2.2.2.2.2.2.2.2.2.2.2.2.2.2.2.2.2.2.2.2.2.2.2.2.2.2.2.2.2.2.2.2.2.2.2.2.2.2.2.2.2.2.2.2.2.2.2.2.2.2.2.2.2.2.2.2.2.1
theorem nf_21_java_lang_ArithmeticException (GA : GA l s0 a0 K lam) : va_Nc "java/lang/UnsupportedOperationException" "java/lang/ArithmeticException" s0 := GA.2.2.2.2.2.2.2.2.2.2.2.2.2.2.2.2.2.2.2.2.2.2.2.2.2.2.2.2.2.2.2.2.2.2.2.2.2.2.2.2.2.2.2.2.2.2.2.2.2.2.2.2.2.2.2.2.2.2.2.2.2.2.2.2.2.2.2.2.2.2.2.2.2.2.2.2.2.2.2.2.2.2.2.2.2.2.2.2.2.2.2.2.2.2.2.2.1
theorem nf_21_java_lang_IllegalArgumentException (GA : GA l s0 a0 K lam) : va_Nc "java/lang/UnsupportedOperationException" "java/lang/IllegalArgumentException" s0 := GA.2.2.2.2.2.2.2.2.2.2.2.2.2.2.2.2.2.2.2.2.2.2.2.2.2.2.2.2.2.2.2.2.2.2.2.2.2.2.2.2.2.2.2.2.2.2.2.2.2.2.2.2.2.2.2.2.2.2.2.2.2.2.2.2.2.2.2.2.2.2.2.2.2.2.2.2.2.2.2.2.2.2.2.2.2.2.2.2.2.2.2.2.2.2.2.2.2.1
theorem nf_21_java_lang_IllegalStateException (GA : GA l s0 a0 K lam) : va_Nc "java/lang/UnsupportedOperationException" "java/lang/IllegalStateException" s0 := GA.2.2.2.2.2.2.2.2.2.2.2.2.2.2.2.2.2.2.2.2.2.2.2.2.2.2.2.2.2.2.2.2.2.2.2.2.2.2.2.2.2.2.2.2.2.2.2.2.2.2.2.2.2.2.2.2.2.2.2.2.2.2.2.2.2.2.2.2.2.2.2.2.2.2.2.2.2.2.2.2.2.2.2.2.2.2.2.2.2.2.2.2.2.2.2.2.2.2.1
theorem nf_21_java_lang_IndexOutOfBoundsException (GA : GA l s0 a0 K lam) : va_Nc "java/lang/UnsupportedOperationException" "java/lang/IndexOutOfBoundsException" s0 := GA.2.2.2.2.2.2.2.2.2.2.2.2.2.2.2.2.2.2.2.2.2.2.2.2.2.2.2.2.2.2.2.2.2.2.2.2.2.2.2.2.2.2.2.2.2.2.2.2.2.2.2.2.2.2.2.2.2.2.2.2.2.2.2.2.2.2.2.2.2.2.2.2.2.2.2.2.2.2.2.2.2.2.2.2.2.2.2.2.2.2.2.2.2.2.2.2.2.2.2.1
theorem nf_21_java_util_NoSuchElementException (GA : GA l s0 a0 K lam) : va_Nc "java/lang/UnsupportedOperationException" "java/util/NoSuchElementException" s0 := GA.2.2.2.2.2.2.2.2.2.2.2.2.2.2.2.2.2.2.2.2.2.2.2.2.2.2.2.2.2.2.2.2.2.2.2.2.2.2.2.2.2.2.2.2.2.2.2.2.2.2.2.2.2.2.2.2.2.2.2.2.2.2.2.2.2.2.2.2.2.2.2.2.2.2.2.2.2.2.2.2.2.2.2.2.2.2.2.2.2.2.2.2.2.2.2.2.2.2.2.2.1
theorem nf_29_java_util_HashMap_TreeNode (GA : GA l s0 a0 K lam) : va_Nc "java/util/HashMap$Node" "java/util/HashMap$TreeNode" s0 := GA.2.2.2.2.2.2.2.2.2.2.2.2.2.2.2.2.2.2.2.2.2.2.2.2.2.2.2.2.2.2.2.2.2.2.2.2.2.2.2.2.2.2.2.2.2.2.2.2.2.2.2.2.2.2.2.2.2.2.2.2.2.2.2.2.2.2.2.2.2.2.2.2.2.2.2.2.2.2.2.2.2.2.2.2.2.2.2.2.2.2.2.2.2.2.2.2.2.2.2.2.2.1
theorem ra_int (GA : GA l s0 a0 K lam) : ∀ cA, s0.vm.findClass ("[" ++ (aty 1001).toString) = some cA → va_RA s0 cA (aty 1001) := GA.2.2.2.2.2.2.2.2.2.2.2.2.2.2.2.2.2.2.2.2.2.2.2.2.2.2.2.2.2.2.2.2.2.2.2.2.2.2.2.2.2.2.2.2.2.2.2.2.2.2.2.2.2.2.2.2.2.2.2.2.2.2.2.2.2.2.2.2.2.2.2.2.2.2.2.2.2.2.2.2.2.2.2.2.2.2.2.2.2.2.2.2.2.2.2.2.2.2.2.2.2.2.1
theorem ra_char (GA : GA l s0 a0 K lam) : ∀ cA, s0.vm.findClass ("[" ++ (aty 1002).toString) = some cA → va_RA s0 cA (aty 1002) := GA.2.2.2.2.2.2.2.2.2.2.2.2.2.2.2.2.2.2.2.2.2.2.2.2.2.2.2.2.2.2.2.2.2.2.2.2.2.2.2.2.2.2.2.2.2.2.2.2.2.2.2.2.2.2.2.2.2.2.2.2.2.2.2.2.2.2.2.2.2.2.2.2.2.2.2.2.2.2.2.2.2.2.2.2.2.2.2.2.2.2.2.2.2.2.2.2.2.2.2.2.2.2.2.1
theorem ra_byte (GA : GA l s0 a0 K lam) : ∀ cA, s0.vm.findClass ("[" ++ (aty 1003).toString) = some cA → va_RA s0 cA (aty 1003) := GA.2.2.2.2.2.2.2.2.2.2.2.2.2.2.2.2.2.2.2.2.2.2.2.2.2.2.2.2.2.2.2.2.2.2.2.2.2.2.2.2.2.2.2.2.2.2.2.2.2.2.2.2.2.2.2.2.2.2.2.2.2.2.2.2.2.2.2.2.2.2.2.2.2.2.2.2.2.2.2.2.2.2.2.2.2.2.2.2.2.2.2.2.2.2.2.2.2.2.2.2.2.2.2.2.1
theorem ra_long (GA : GA l s0 a0 K lam) : ∀ cA, s0.vm.findClass ("[" ++ (aty 1004).toString) = some cA → va_RA s0 cA (aty 1004) := GA.2.2.2.2.2.2.2.2.2.2.2.2.2.2.2.2.2.2.2.2.2.2.2.2.2.2.2.2.2.2.2.2.2.2.2.2.2.2.2.2.2.2.2.2.2.2.2.2.2.2.2.2.2.2.2.2.2.2.2.2.2.2.2.2.2.2.2.2.2.2.2.2.2.2.2.2.2.2.2.2.2.2.2.2.2.2.2.2.2.2.2.2.2.2.2.2.2.2.2.2.2.2.2.2.2.1
theorem ra_double (GA : GA l s0 a0 K lam) : ∀ cA, s0.vm.findClass ("[" ++ (aty 1005).toString) = some cA → va_RA s0 cA (aty 1005) := GA.2.2.2.2.2.2.2.2.2.2.2.2.2.2.2.2.2.2.2.2.2.2.2.2.2.2.2.2.2.2.2.2.2.2.2.2.2.2.2.2.2.2.2.2.2.2.2.2.2.2.2.2.2.2.2.2.2.2.2.2.2.2.2.2.2.2.2.2.2.2.2.2.2.2.2.2.2.2.2.2.2.2.2.2.2.2.2.2.2.2.2.2.2.2.2.2.2.2.2.2.2.2.2.2.2.2.1
theorem ao_1006 (GA : GA l s0 a0 K lam) : va_AO "java/lang/Object" s0 := GA.2.2.2.2.2.2.2.2.2.2.2.2.2.2.2.2.2.2.2.2.2.2.2.2.2.2.2.2.2.2.2.2.2.2.2.2.2.2.2.2.2.2.2.2.2.2.2.2.2.2.2.2.2.2.2.2.2.2.2.2.2.2.2.2.2.2.2.2.2.2.2.2.2.2.2.2.2.2.2.2.2.2.2.2.2.2.2.2.2.2.2.2.2.2.2.2.2.2.2.2.2.2.2.2.2.2.2.1
theorem ao_1007 (GA : GA l s0 a0 K lam) : va_AO "java/util/HashMap$Node" s0 := GA.2.2.2.2.2.2.2.2.2.2.2.2.2.2.2.2.2.2.2.2.2.2.2.2.2.2.2.2.2.2.2.2.2.2.2.2.2.2.2.2.2.2.2.2.2.2.2.2.2.2.2.2.2.2.2.2.2.2.2.2.2.2.2.2.2.2.2.2.2.2.2.2.2.2.2.2.2.2.2.2.2.2.2.2.2.2.2.2.2.2.2.2.2.2.2.2.2.2.2.2.2.2.2.2.2.2.2.2.1
theorem siG_201 (GA : GA l s0 a0 K lam) : SI s0 lam 201 ⟨"JumpHall", "mat", "()I"⟩ 1 119 sg_1 (some (K 101)) := GA.2.2.2.2.2.2.2.2.2.2.2.2.2.2.2.2.2.2.2.2.2.2.2.2.2.2.2.2.2.2.2.2.2.2.2.2.2.2.2.2.2.2.2.2.2.2.2.2.2.2.2.2.2.2.2.2.2.2.2.2.2.2.2.2.2.2.2.2.2.2.2.2.2.2.2.2.2.2.2.2.2.2.2.2.2.2.2.2.2.2.2.2.2.2.2.2.2.2.2.2.2.2.2.2.2.2.2.2.2.1
theorem siG_202 (GA : GA l s0 a0 K lam) : SI s0 lam 202 ⟨"JumpHall", "fix", "(II)I"⟩ 32 126 sg_2 none := GA.2.2.2.2.2.2.2.2.2.2.2.2.2.2.2.2.2.2.2.2.2.2.2.2.2.2.2.2.2.2.2.2.2.2.2.2.2.2.2.2.2.2.2.2.2.2.2.2.2.2.2.2.2.2.2.2.2.2.2.2.2.2.2.2.2.2.2.2.2.2.2.2.2.2.2.2.2.2.2.2.2.2.2.2.2.2.2.2.2.2.2.2.2.2.2.2.2.2.2.2.2.2.2.2.2.2.2.2.2.2.1
theorem siG_203 (GA : GA l s0 a0 K lam) : SI s0 lam 203 ⟨"JumpHall$Hall", "fix", "(II)I"⟩ 14 148 sg_3 none := GA.2.2.2.2.2.2.2.2.2.2.2.2.2.2.2.2.2.2.2.2.2.2.2.2.2.2.2.2.2.2.2.2.2.2.2.2.2.2.2.2.2.2.2.2.2.2.2.2.2.2.2.2.2.2.2.2.2.2.2.2.2.2.2.2.2.2.2.2.2.2.2.2.2.2.2.2.2.2.2.2.2.2.2.2.2.2.2.2.2.2.2.2.2.2.2.2.2.2.2.2.2.2.2.2.2.2.2.2.2.2.2.1
theorem siG_204 (GA : GA l s0 a0 K lam) : SI s0 lam 204 ⟨"JumpHall", "open", "(I)I"⟩ 8 133 sg_4 none := GA.2.2.2.2.2.2.2.2.2.2.2.2.2.2.2.2.2.2.2.2.2.2.2.2.2.2.2.2.2.2.2.2.2.2.2.2.2.2.2.2.2.2.2.2.2.2.2.2.2.2.2.2.2.2.2.2.2.2.2.2.2.2.2.2.2.2.2.2.2.2.2.2.2.2.2.2.2.2.2.2.2.2.2.2.2.2.2.2.2.2.2.2.2.2.2.2.2.2.2.2.2.2.2.2.2.2.2.2.2.2.2.2.1
theorem siG_205 (GA : GA l s0 a0 K lam) : SI s0 lam 205 ⟨"JumpHall", "matOf", "(II)I"⟩ 101 152 sg_5 none := GA.2.2.2.2.2.2.2.2.2.2.2.2.2.2.2.2.2.2.2.2.2.2.2.2.2.2.2.2.2.2.2.2.2.2.2.2.2.2.2.2.2.2.2.2.2.2.2.2.2.2.2.2.2.2.2.2.2.2.2.2.2.2.2.2.2.2.2.2.2.2.2.2.2.2.2.2.2.2.2.2.2.2.2.2.2.2.2.2.2.2.2.2.2.2.2.2.2.2.2.2.2.2.2.2.2.2.2.2.2.2.2.2.2.1
theorem siG_206 (GA : GA l s0 a0 K lam) : SI s0 lam 206 ⟨"JumpHall$Hall", "weightOn", "(I)I"⟩ 2 112 sg_6 none := GA.2.2.2.2.2.2.2.2.2.2.2.2.2.2.2.2.2.2.2.2.2.2.2.2.2.2.2.2.2.2.2.2.2.2.2.2.2.2.2.2.2.2.2.2.2.2.2.2.2.2.2.2.2.2.2.2.2.2.2.2.2.2.2.2.2.2.2.2.2.2.2.2.2.2.2.2.2.2.2.2.2.2.2.2.2.2.2.2.2.2.2.2.2.2.2.2.2.2.2.2.2.2.2.2.2.2.2.2.2.2.2.2.2.2.1
theorem siG_207 (GA : GA l s0 a0 K lam) : SI s0 lam 207 ⟨"JumpHall", "jumper", "(II)I"⟩ 31 184 sg_7 none := GA.2.2.2.2.2.2.2.2.2.2.2.2.2.2.2.2.2.2.2.2.2.2.2.2.2.2.2.2.2.2.2.2.2.2.2.2.2.2.2.2.2.2.2.2.2.2.2.2.2.2.2.2.2.2.2.2.2.2.2.2.2.2.2.2.2.2.2.2.2.2.2.2.2.2.2.2.2.2.2.2.2.2.2.2.2.2.2.2.2.2.2.2.2.2.2.2.2.2.2.2.2.2.2.2.2.2.2.2.2.2.2.2.2.2.2.1
theorem siG_208 (GA : GA l s0 a0 K lam) : SI s0 lam 208 ⟨"JumpHall", "up", "(II)I"⟩ 33 185 sg_8 none := GA.2.2.2.2.2.2.2.2.2.2.2.2.2.2.2.2.2.2.2.2.2.2.2.2.2.2.2.2.2.2.2.2.2.2.2.2.2.2.2.2.2.2.2.2.2.2.2.2.2.2.2.2.2.2.2.2.2.2.2.2.2.2.2.2.2.2.2.2.2.2.2.2.2.2.2.2.2.2.2.2.2.2.2.2.2.2.2.2.2.2.2.2.2.2.2.2.2.2.2.2.2.2.2.2.2.2.2.2.2.2.2.2.2.2.2.2.1
theorem siG_209 (GA : GA l s0 a0 K lam) : SI s0 lam 209 ⟨"JumpHall$Hall", "checkUp", "(LJumpHall$Jumper;I)V"⟩ 61 196 sg_9 none := GA.2.2.2.2.2.2.2.2.2.2.2.2.2.2.2.2.2.2.2.2.2.2.2.2.2.2.2.2.2.2.2.2.2.2.2.2.2.2.2.2.2.2.2.2.2.2.2.2.2.2.2.2.2.2.2.2.2.2.2.2.2.2.2.2.2.2.2.2.2.2.2.2.2.2.2.2.2.2.2.2.2.2.2.2.2.2.2.2.2.2.2.2.2.2.2.2.2.2.2.2.2.2.2.2.2.2.2.2.2.2.2.2.2.2.2.2.2.1
theorem siG_210 (GA : GA l s0 a0 K lam) : SI s0 lam 210 ⟨"JumpHall$Hall", "checkUp", "(LJumpHall$Jumper;I)V"⟩ 72 197 sg_10 none := GA.2.2.2.2.2.2.2.2.2.2.2.2.2.2.2.2.2.2.2.2.2.2.2.2.2.2.2.2.2.2.2.2.2.2.2.2.2.2.2.2.2.2.2.2.2.2.2.2.2.2.2.2.2.2.2.2.2.2.2.2.2.2.2.2.2.2.2.2.2.2.2.2.2.2.2.2.2.2.2.2.2.2.2.2.2.2.2.2.2.2.2.2.2.2.2.2.2.2.2.2.2.2.2.2.2.2.2.2.2.2.2.2.2.2.2.2.2.2.1
theorem siG_211 (GA : GA l s0 a0 K lam) : SI s0 lam 211 ⟨"JumpHall", "down", "(I)I"⟩ 8 190 sg_11 none := GA.2.2.2.2.2.2.2.2.2.2.2.2.2.2.2.2.2.2.2.2.2.2.2.2.2.2.2.2.2.2.2.2.2.2.2.2.2.2.2.2.2.2.2.2.2.2.2.2.2.2.2.2.2.2.2.2.2.2.2.2.2.2.2.2.2.2.2.2.2.2.2.2.2.2.2.2.2.2.2.2.2.2.2.2.2.2.2.2.2.2.2.2.2.2.2.2.2.2.2.2.2.2.2.2.2.2.2.2.2.2.2.2.2.2.2.2.2.2.2.1
theorem siG_212 (GA : GA l s0 a0 K lam) : SI s0 lam 212 ⟨"JumpHall", "leave", "(I)I"⟩ 8 191 sg_12 none := GA.2.2.2.2.2.2.2.2.2.2.2.2.2.2.2.2.2.2.2.2.2.2.2.2.2.2.2.2.2.2.2.2.2.2.2.2.2.2.2.2.2.2.2.2.2.2.2.2.2.2.2.2.2.2.2.2.2.2.2.2.2.2.2.2.2.2.2.2.2.2.2.2.2.2.2.2.2.2.2.2.2.2.2.2.2.2.2.2.2.2.2.2.2.2.2.2.2.2.2.2.2.2.2.2.2.2.2.2.2.2.2.2.2.2.2.2.2.2.2.2.1
theorem siG_213 (GA : GA l s0 a0 K lam) : SI s0 lam 213 ⟨"JumpHall$Hall", "leave", "(I)I"⟩ 38 223 sg_13 (some (K 113)) := GA.2.2.2.2.2.2.2.2.2.2.2.2.2.2.2.2.2.2.2.2.2.2.2.2.2.2.2.2.2.2.2.2.2.2.2.2.2.2.2.2.2.2.2.2.2.2.2.2.2.2.2.2.2.2.2.2.2.2.2.2.2.2.2.2.2.2.2.2.2.2.2.2.2.2.2.2.2.2.2.2.2.2.2.2.2.2.2.2.2.2.2.2.2.2.2.2.2.2.2.2.2.2.2.2.2.2.2.2.2.2.2.2.2.2.2.2.2.2.2.2.2.1
theorem siG_214 (GA : GA l s0 a0 K lam) : SI s0 lam 214 ⟨"JumpHall", "stock", "(III)I"⟩ 30 196 sg_14 none := GA.2.2.2.2.2.2.2.2.2.2.2.2.2.2.2.2.2.2.2.2.2.2.2.2.2.2.2.2.2.2.2.2.2.2.2.2.2.2.2.2.2.2.2.2.2.2.2.2.2.2.2.2.2.2.2.2.2.2.2.2.2.2.2.2.2.2.2.2.2.2.2.2.2.2.2.2.2.2.2.2.2.2.2.2.2.2.2.2.2.2.2.2.2.2.2.2.2.2.2.2.2.2.2.2.2.2.2.2.2.2.2.2.2.2.2.2.2.2.2.2.2.2.1
theorem siG_215 (GA : GA l s0 a0 K lam) : SI s0 lam 215 ⟨"JumpHall", "sell", "(II)I"⟩ 18 199 sg_15 none := GA.2.2.2.2.2.2.2.2.2.2.2.2.2.2.2.2.2.2.2.2.2.2.2.2.2.2.2.2.2.2.2.2.2.2.2.2.2.2.2.2.2.2.2.2.2.2.2.2.2.2.2.2.2.2.2.2.2.2.2.2.2.2.2.2.2.2.2.2.2.2.2.2.2.2.2.2.2.2.2.2.2.2.2.2.2.2.2.2.2.2.2.2.2.2.2.2.2.2.2.2.2.2.2.2.2.2.2.2.2.2.2.2.2.2.2.2.2.2.2.2.2.2.2.1
theorem siG_216 (GA : GA l s0 a0 K lam) : SI s0 lam 216 ⟨"JumpHall", "guard", "()I"⟩ 1 242 sg_16 (some (K 116)) := GA.2.2.2.2.2.2.2.2.2.2.2.2.2.2.2.2.2.2.2.2.2.2.2.2.2.2.2.2.2.2.2.2.2.2.2.2.2.2.2.2.2.2.2.2.2.2.2.2.2.2.2.2.2.2.2.2.2.2.2.2.2.2.2.2.2.2.2.2.2.2.2.2.2.2.2.2.2.2.2.2.2.2.2.2.2.2.2.2.2.2.2.2.2.2.2.2.2.2.2.2.2.2.2.2.2.2.2.2.2.2.2.2.2.2.2.2.2.2.2.2.2.2.2.2.1
theorem siG_217 (GA : GA l s0 a0 K lam) : SI s0 lam 217 ⟨"JumpHall", "place", "(II)I"⟩ 33 246 sg_17 none := GA.2.2.2.2.2.2.2.2.2.2.2.2.2.2.2.2.2.2.2.2.2.2.2.2.2.2.2.2.2.2.2.2.2.2.2.2.2.2.2.2.2.2.2.2.2.2.2.2.2.2.2.2.2.2.2.2.2.2.2.2.2.2.2.2.2.2.2.2.2.2.2.2.2.2.2.2.2.2.2.2.2.2.2.2.2.2.2.2.2.2.2.2.2.2.2.2.2.2.2.2.2.2.2.2.2.2.2.2.2.2.2.2.2.2.2.2.2.2.2.2.2.2.2.2.2.1
theorem siG_218 (GA : GA l s0 a0 K lam) : SI s0 lam 218 ⟨"JumpHall", "book", "(IIII)I"⟩ 56 255 sg_18 none := GA.2.2.2.2.2.2.2.2.2.2.2.2.2.2.2.2.2.2.2.2.2.2.2.2.2.2.2.2.2.2.2.2.2.2.2.2.2.2.2.2.2.2.2.2.2.2.2.2.2.2.2.2.2.2.2.2.2.2.2.2.2.2.2.2.2.2.2.2.2.2.2.2.2.2.2.2.2.2.2.2.2.2.2.2.2.2.2.2.2.2.2.2.2.2.2.2.2.2.2.2.2.2.2.2.2.2.2.2.2.2.2.2.2.2.2.2.2.2.2.2.2.2.2.2.2.2.1
theorem siG_219 (GA : GA l s0 a0 K lam) : SI s0 lam 219 ⟨"JumpHall", "cancel", "(I)I"⟩ 8 262 sg_19 none := GA.2.2.2.2.2.2.2.2.2.2.2.2.2.2.2.2.2.2.2.2.2.2.2.2.2.2.2.2.2.2.2.2.2.2.2.2.2.2.2.2.2.2.2.2.2.2.2.2.2.2.2.2.2.2.2.2.2.2.2.2.2.2.2.2.2.2.2.2.2.2.2.2.2.2.2.2.2.2.2.2.2.2.2.2.2.2.2.2.2.2.2.2.2.2.2.2.2.2.2.2.2.2.2.2.2.2.2.2.2.2.2.2.2.2.2.2.2.2.2.2.2.2.2.2.2.2.2.1
theorem siG_220 (GA : GA l s0 a0 K lam) : SI s0 lam 220 ⟨"JumpHall", "pass", "(I)I"⟩ 12 276 sg_20 none := GA.2.2.2.2.2.2.2.2.2.2.2.2.2.2.2.2.2.2.2.2.2.2.2.2.2.2.2.2.2.2.2.2.2.2.2.2.2.2.2.2.2.2.2.2.2.2.2.2.2.2.2.2.2.2.2.2.2.2.2.2.2.2.2.2.2.2.2.2.2.2.2.2.2.2.2.2.2.2.2.2.2.2.2.2.2.2.2.2.2.2.2.2.2.2.2.2.2.2.2.2.2.2.2.2.2.2.2.2.2.2.2.2.2.2.2.2.2.2.2.2.2.2.2.2.2.2.2.2.1
theorem siG_221 (GA : GA l s0 a0 K lam) : SI s0 lam 221 ⟨"JumpHall", "meanWeight", "()F"⟩ 4 325 sg_21 (some (K 121)) := GA.2.2.2.2.2.2.2.2.2.2.2.2.2.2.2.2.2.2.2.2.2.2.2.2.2.2.2.2.2.2.2.2.2.2.2.2.2.2.2.2.2.2.2.2.2.2.2.2.2.2.2.2.2.2.2.2.2.2.2.2.2.2.2.2.2.2.2.2.2.2.2.2.2.2.2.2.2.2.2.2.2.2.2.2.2.2.2.2.2.2.2.2.2.2.2.2.2.2.2.2.2.2.2.2.2.2.2.2.2.2.2.2.2.2.2.2.2.2.2.2.2.2.2.2.2.2.2.2.2.1
theorem siG_222 (GA : GA l s0 a0 K lam) : SI s0 lam 222 ⟨"JumpHall", "meanWeight", "()F"⟩ 21 331 sg_22 (some (K 122)) := GA.2.2.2.2.2.2.2.2.2.2.2.2.2.2.2.2.2.2.2.2.2.2.2.2.2.2.2.2.2.2.2.2.2.2.2.2.2.2.2.2.2.2.2.2.2.2.2.2.2.2.2.2.2.2.2.2.2.2.2.2.2.2.2.2.2.2.2.2.2.2.2.2.2.2.2.2.2.2.2.2.2.2.2.2.2.2.2.2.2.2.2.2.2.2.2.2.2.2.2.2.2.2.2.2.2.2.2.2.2.2.2.2.2.2.2.2.2.2.2.2.2.2.2.2.2.2.2.2.2.2.1
theorem siG_223 (GA : GA l s0 a0 K lam) : SI s0 lam 223 ⟨"JumpHall", "account", "(I)I"⟩ 151 341 sg_23 none := GA.2.2.2.2.2.2.2.2.2.2.2.2.2.2.2.2.2.2.2.2.2.2.2.2.2.2.2.2.2.2.2.2.2.2.2.2.2.2.2.2.2.2.2.2.2.2.2.2.2.2.2.2.2.2.2.2.2.2.2.2.2.2.2.2.2.2.2.2.2.2.2.2.2.2.2.2.2.2.2.2.2.2.2.2.2.2.2.2.2.2.2.2.2.2.2.2.2.2.2.2.2.2.2.2.2.2.2.2.2.2.2.2.2.2.2.2.2.2.2.2.2.2.2.2.2.2.2.2.2.2.2.1
theorem siG_224 (GA : GA l s0 a0 K lam) : SI s0 lam 224 ⟨"JumpHall", "account", "(I)I"⟩ 166 342 sg_24 (some (K 124)) := GA.2.2.2.2.2.2.2.2.2.2.2.2.2.2.2.2.2.2.2.2.2.2.2.2.2.2.2.2.2.2.2.2.2.2.2.2.2.2.2.2.2.2.2.2.2.2.2.2.2.2.2.2.2.2.2.2.2.2.2.2.2.2.2.2.2.2.2.2.2.2.2.2.2.2.2.2.2.2.2.2.2.2.2.2.2.2.2.2.2.2.2.2.2.2.2.2.2.2.2.2.2.2.2.2.2.2.2.2.2.2.2.2.2.2.2.2.2.2.2.2.2.2.2.2.2.2.2.2.2.2.2.2.1
theorem siG_225 (GA : GA l s0 a0 K lam) : SI s0 lam 225 ⟨"JumpHall", "read", "()I"⟩ 22 376 sg_25 none := GA.2.2.2.2.2.2.2.2.2.2.2.2.2.2.2.2.2.2.2.2.2.2.2.2.2.2.2.2.2.2.2.2.2.2.2.2.2.2.2.2.2.2.2.2.2.2.2.2.2.2.2.2.2.2.2.2.2.2.2.2.2.2.2.2.2.2.2.2.2.2.2.2.2.2.2.2.2.2.2.2.2.2.2.2.2.2.2.2.2.2.2.2.2.2.2.2.2.2.2.2.2.2.2.2.2.2.2.2.2.2.2.2.2.2.2.2.2.2.2.2.2.2.2.2.2.2.2.2.2.2.2.2.2.1
theorem siG_226 (GA : GA l s0 a0 K lam) : SI s0 lam 226 ⟨"JumpHall$Command", "deed", "(LJumpHall$Hall;)LJumpHall$Deed;"⟩ 219 57 sg_26 none := GA.2.2.2.2.2.2.2.2.2.2.2.2.2.2.2.2.2.2.2.2.2.2.2.2.2.2.2.2.2.2.2.2.2.2.2.2.2.2.2.2.2.2.2.2.2.2.2.2.2.2.2.2.2.2.2.2.2.2.2.2.2.2.2.2.2.2.2.2.2.2.2.2.2.2.2.2.2.2.2.2.2.2.2.2.2.2.2.2.2.2.2.2.2.2.2.2.2.2.2.2.2.2.2.2.2.2.2.2.2.2.2.2.2.2.2.2.2.2.2.2.2.2.2.2.2.2.2.2.2.2.2.2.2.2.1
theorem siG_227 (GA : GA l s0 a0 K lam) : SI s0 lam 227 ⟨"JumpHall$Command", "deed", "(LJumpHall$Hall;)LJumpHall$Deed;"⟩ 237 61 sg_27 none := GA.2.2.2.2.2.2.2.2.2.2.2.2.2.2.2.2.2.2.2.2.2.2.2.2.2.2.2.2.2.2.2.2.2.2.2.2.2.2.2.2.2.2.2.2.2.2.2.2.2.2.2.2.2.2.2.2.2.2.2.2.2.2.2.2.2.2.2.2.2.2.2.2.2.2.2.2.2.2.2.2.2.2.2.2.2.2.2.2.2.2.2.2.2.2.2.2.2.2.2.2.2.2.2.2.2.2.2.2.2.2.2.2.2.2.2.2.2.2.2.2.2.2.2.2.2.2.2.2.2.2.2.2.2.2.2.1
theorem siG_228 (GA : GA l s0 a0 K lam) : SI s0 lam 228 ⟨"JumpHall$Command", "deed", "(LJumpHall$Hall;)LJumpHall$Deed;"⟩ 271 62 sg_28 none := GA.2.2.2.2.2.2.2.2.2.2.2.2.2.2.2.2.2.2.2.2.2.2.2.2.2.2.2.2.2.2.2.2.2.2.2.2.2.2.2.2.2.2.2.2.2.2.2.2.2.2.2.2.2.2.2.2.2.2.2.2.2.2.2.2.2.2.2.2.2.2.2.2.2.2.2.2.2.2.2.2.2.2.2.2.2.2.2.2.2.2.2.2.2.2.2.2.2.2.2.2.2.2.2.2.2.2.2.2.2.2.2.2.2.2.2.2.2.2.2.2.2.2.2.2.2.2.2.2.2.2.2.2.2.2.2.2.1
theorem siG_229 (GA : GA l s0 a0 K lam) : SI s0 lam 229 ⟨"JumpHall$Command", "deed", "(LJumpHall$Hall;)LJumpHall$Deed;"⟩ 308 66 sg_29 none := GA.2.2.2.2.2.2.2.2.2.2.2.2.2.2.2.2.2.2.2.2.2.2.2.2.2.2.2.2.2.2.2.2.2.2.2.2.2.2.2.2.2.2.2.2.2.2.2.2.2.2.2.2.2.2.2.2.2.2.2.2.2.2.2.2.2.2.2.2.2.2.2.2.2.2.2.2.2.2.2.2.2.2.2.2.2.2.2.2.2.2.2.2.2.2.2.2.2.2.2.2.2.2.2.2.2.2.2.2.2.2.2.2.2.2.2.2.2.2.2.2.2.2.2.2.2.2.2.2.2.2.2.2.2.2.2.2.2.1
theorem siG_230 (GA : GA l s0 a0 K lam) : SI s0 lam 230 ⟨"JumpHall$Command", "deed", "(LJumpHall$Hall;)LJumpHall$Deed;"⟩ 343 67 sg_30 none := GA.2.2.2.2.2.2.2.2.2.2.2.2.2.2.2.2.2.2.2.2.2.2.2.2.2.2.2.2.2.2.2.2.2.2.2.2.2.2.2.2.2.2.2.2.2.2.2.2.2.2.2.2.2.2.2.2.2.2.2.2.2.2.2.2.2.2.2.2.2.2.2.2.2.2.2.2.2.2.2.2.2.2.2.2.2.2.2.2.2.2.2.2.2.2.2.2.2.2.2.2.2.2.2.2.2.2.2.2.2.2.2.2.2.2.2.2.2.2.2.2.2.2.2.2.2.2.2.2.2.2.2.2.2.2.2.2.2.2.1
theorem siG_231 (GA : GA l s0 a0 K lam) : SI s0 lam 231 ⟨"JumpHall$Command", "deed", "(LJumpHall$Hall;)LJumpHall$Deed;"⟩ 361 68 sg_31 none := GA.2.2.2.2.2.2.2.2.2.2.2.2.2.2.2.2.2.2.2.2.2.2.2.2.2.2.2.2.2.2.2.2.2.2.2.2.2.2.2.2.2.2.2.2.2.2.2.2.2.2.2.2.2.2.2.2.2.2.2.2.2.2.2.2.2.2.2.2.2.2.2.2.2.2.2.2.2.2.2.2.2.2.2.2.2.2.2.2.2.2.2.2.2.2.2.2.2.2.2.2.2.2.2.2.2.2.2.2.2.2.2.2.2.2.2.2.2.2.2.2.2.2.2.2.2.2.2.2.2.2.2.2.2.2.2.2.2.2.2.1
theorem siG_232 (GA : GA l s0 a0 K lam) : SI s0 lam 232 ⟨"JumpHall$Command", "deed", "(LJumpHall$Hall;)LJumpHall$Deed;"⟩ 381 73 sg_32 none := GA.2.2.2.2.2.2.2.2.2.2.2.2.2.2.2.2.2.2.2.2.2.2.2.2.2.2.2.2.2.2.2.2.2.2.2.2.2.2.2.2.2.2.2.2.2.2.2.2.2.2.2.2.2.2.2.2.2.2.2.2.2.2.2.2.2.2.2.2.2.2.2.2.2.2.2.2.2.2.2.2.2.2.2.2.2.2.2.2.2.2.2.2.2.2.2.2.2.2.2.2.2.2.2.2.2.2.2.2.2.2.2.2.2.2.2.2.2.2.2.2.2.2.2.2.2.2.2.2.2.2.2.2.2.2.2.2.2.2.2.2.1
theorem dw_0 (GA : GA l s0 a0 K lam) : (Cond.methodLink "java/util/ImmutableCollections$AbstractImmutableList" (107 : Nat) ({ cls := "java/util/ImmutableCollections$AbstractImmutableList", name := "indexOf", desc := "(Ljava/lang/Object;)I" } : MethodName)).before a0 s0 = true := GA.2.2.2.2.2.2.2.2.2.2.2.2.2.2.2.2.2.2.2.2.2.2.2.2.2.2.2.2.2.2.2.2.2.2.2.2.2.2.2.2.2.2.2.2.2.2.2.2.2.2.2.2.2.2.2.2.2.2.2.2.2.2.2.2.2.2.2.2.2.2.2.2.2.2.2.2.2.2.2.2.2.2.2.2.2.2.2.2.2.2.2.2.2.2.2.2.2.2.2.2.2.2.2.2.2.2.2.2.2.2.2.2.2.2.2.2.2.2.2.2.2.2.2.2.2.2.2.2.2.2.2.2.2.2.2.2.2.2.2.2.2.1
theorem dw_1 (GA : GA l s0 a0 K lam) : (Cond.sameMethod "java/util/ImmutableCollections$AbstractImmutableList" "java/util/List" "indexOf" "(Ljava/lang/Object;)I").before a0 s0 = true := GA.2.2.2.2.2.2.2.2.2.2.2.2.2.2.2.2.2.2.2.2.2.2.2.2.2.2.2.2.2.2.2.2.2.2.2.2.2.2.2.2.2.2.2.2.2.2.2.2.2.2.2.2.2.2.2.2.2.2.2.2.2.2.2.2.2.2.2.2.2.2.2.2.2.2.2.2.2.2.2.2.2.2.2.2.2.2.2.2.2.2.2.2.2.2.2.2.2.2.2.2.2.2.2.2.2.2.2.2.2.2.2.2.2.2.2.2.2.2.2.2.2.2.2.2.2.2.2.2.2.2.2.2.2.2.2.2.2.2.2.2.2.2.1
theorem mi_Object (GA : GA l s0 a0 K lam) : va_Mi "[Ljava/lang/Object;" (K 11) s0 := GA.2.2.2.2.2.2.2.2.2.2.2.2.2.2.2.2.2.2.2.2.2.2.2.2.2.2.2.2.2.2.2.2.2.2.2.2.2.2.2.2.2.2.2.2.2.2.2.2.2.2.2.2.2.2.2.2.2.2.2.2.2.2.2.2.2.2.2.2.2.2.2.2.2.2.2.2.2.2.2.2.2.2.2.2.2.2.2.2.2.2.2.2.2.2.2.2.2.2.2.2.2.2.2.2.2.2.2.2.2.2.2.2.2.2.2.2.2.2.2.2.2.2.2.2.2.2.2.2.2.2.2.2.2.2.2.2.2.2.2.2.2.2.2
theorem cs_none {C : String} (GA : GA l s0 a0 K lam) : ∀ q ∈ ([] : List Nat), q < 40 ∧ 0 < q ∧ CS s0 q C := fun _ h => nomatch h
theorem cs_JumpHall_Command (GA : GA l s0 a0 K lam) : ∀ q ∈ ([10] : List Nat), q < 40 ∧ 0 < q ∧ CS s0 q "JumpHall$Command" := by
  intro q hq
  simp only [List.mem_cons, List.not_mem_nil, or_false] at hq
  rcases hq with rfl
  · exact ⟨by decide, by decide, (GA.2.2.1 10 (by decide) (by decide) (Or.inl (by decide))).elim (fun _ hc => CS.self hc)⟩
theorem cs_JumpHall_Hall (GA : GA l s0 a0 K lam) : ∀ q ∈ ([3] : List Nat), q < 40 ∧ 0 < q ∧ CS s0 q "JumpHall$Hall" := by
  intro q hq
  simp only [List.mem_cons, List.not_mem_nil, or_false] at hq
  rcases hq with rfl
  · exact ⟨by decide, by decide, (GA.2.2.1 3 (by decide) (by decide) (Or.inl (by decide))).elim (fun _ hc => CS.self hc)⟩
theorem cs_JumpHall_Hindrance (GA : GA l s0 a0 K lam) : ∀ q ∈ ([12, 13] : List Nat), q < 40 ∧ 0 < q ∧ CS s0 q "JumpHall$Hindrance" := by
  intro q hq
  simp only [List.mem_cons, List.not_mem_nil, or_false] at hq
  rcases hq with rfl | rfl
  · exact ⟨by decide, by decide, CS.of (GA.1.2 _ q3499)⟩
  · exact ⟨by decide, by decide, CS.of (GA.1.2 _ q3498)⟩
theorem cs_JumpHall_Jumper (GA : GA l s0 a0 K lam) : ∀ q ∈ ([5] : List Nat), q < 40 ∧ 0 < q ∧ CS s0 q "JumpHall$Jumper" := by
  intro q hq
  simp only [List.mem_cons, List.not_mem_nil, or_false] at hq
  rcases hq with rfl
  · exact ⟨by decide, by decide, (GA.2.2.1 5 (by decide) (by decide) (Or.inl (by decide))).elim (fun _ hc => CS.self hc)⟩
theorem cs_JumpHall_Mat (GA : GA l s0 a0 K lam) : ∀ q ∈ ([4] : List Nat), q < 40 ∧ 0 < q ∧ CS s0 q "JumpHall$Mat" := by
  intro q hq
  simp only [List.mem_cons, List.not_mem_nil, or_false] at hq
  rcases hq with rfl
  · exact ⟨by decide, by decide, (GA.2.2.1 4 (by decide) (by decide) (Or.inl (by decide))).elim (fun _ hc => CS.self hc)⟩
theorem cs_JumpHall_Party (GA : GA l s0 a0 K lam) : ∀ q ∈ ([6] : List Nat), q < 40 ∧ 0 < q ∧ CS s0 q "JumpHall$Party" := by
  intro q hq
  simp only [List.mem_cons, List.not_mem_nil, or_false] at hq
  rcases hq with rfl
  · exact ⟨by decide, by decide, (GA.2.2.1 6 (by decide) (by decide) (Or.inl (by decide))).elim (fun _ hc => CS.self hc)⟩
theorem cs_JumpHall_Socks (GA : GA l s0 a0 K lam) : ∀ q ∈ ([8] : List Nat), q < 40 ∧ 0 < q ∧ CS s0 q "JumpHall$Socks" := by
  intro q hq
  simp only [List.mem_cons, List.not_mem_nil, or_false] at hq
  rcases hq with rfl
  · exact ⟨by decide, by decide, (GA.2.2.1 8 (by decide) (by decide) (Or.inl (by decide))).elim (fun _ hc => CS.self hc)⟩
theorem cs_X12 (GA : GA l s0 a0 K lam) (k : Nat) (h : ([12] : List Nat).contains k = true) : CS s0 k "JumpHall$Refusal" := by
  have e : k = 12 := by simpa using h
  subst e
  obtain ⟨c, hc⟩ := GA.2.2.1 12 (by decide) (by decide) (Or.inl (by decide))
  exact CS.self hc
theorem cs_X13 (GA : GA l s0 a0 K lam) (k : Nat) (h : ([13] : List Nat).contains k = true) : CS s0 k "JumpHall$NotThere" := by
  have e : k = 13 := by simpa using h
  subst e
  obtain ⟨c, hc⟩ := GA.2.2.1 13 (by decide) (by decide) (Or.inl (by decide))
  exact CS.self hc
theorem cs_X14 (GA : GA l s0 a0 K lam) (k : Nat) (h : ([14] : List Nat).contains k = true) : CS s0 k "JumpHall$BadText" := by
  have e : k = 14 := by simpa using h
  subst e
  obtain ⟨c, hc⟩ := GA.2.2.1 14 (by decide) (by decide) (Or.inl (by decide))
  exact CS.self hc
theorem cs_X16 (GA : GA l s0 a0 K lam) (k : Nat) (h : ([16] : List Nat).contains k = true) : CS s0 k "java/lang/ArithmeticException" := by
  have e : k = 16 := by simpa using h
  subst e
  obtain ⟨c, hc⟩ := GA.2.2.1 16 (by decide) (by decide) (Or.inl (by decide))
  exact CS.self hc
theorem cs_X17 (GA : GA l s0 a0 K lam) (k : Nat) (h : ([17] : List Nat).contains k = true) : CS s0 k "java/lang/IllegalArgumentException" := by
  have e : k = 17 := by simpa using h
  subst e
  obtain ⟨c, hc⟩ := GA.2.2.1 17 (by decide) (by decide) (Or.inl (by decide))
  exact CS.self hc
theorem cs_X18 (GA : GA l s0 a0 K lam) (k : Nat) (h : ([18] : List Nat).contains k = true) : CS s0 k "java/lang/IllegalStateException" := by
  have e : k = 18 := by simpa using h
  subst e
  obtain ⟨c, hc⟩ := GA.2.2.1 18 (by decide) (by decide) (Or.inl (by decide))
  exact CS.self hc
theorem cs_X19 (GA : GA l s0 a0 K lam) (k : Nat) (h : ([19] : List Nat).contains k = true) : CS s0 k "java/lang/IndexOutOfBoundsException" := by
  have e : k = 19 := by simpa using h
  subst e
  obtain ⟨c, hc⟩ := GA.2.2.1 19 (by decide) (by decide) (Or.inl (by decide))
  exact CS.self hc
theorem cs_X20 (GA : GA l s0 a0 K lam) (k : Nat) (h : ([20] : List Nat).contains k = true) : CS s0 k "java/util/NoSuchElementException" := by
  have e : k = 20 := by simpa using h
  subst e
  obtain ⟨c, hc⟩ := GA.2.2.1 20 (by decide) (by decide) (Or.inl (by decide))
  exact CS.self hc
theorem cs_X21 (GA : GA l s0 a0 K lam) (k : Nat) (h : ([21] : List Nat).contains k = true) : CS s0 k "java/lang/UnsupportedOperationException" := by
  have e : k = 21 := by simpa using h
  subst e
  obtain ⟨c, hc⟩ := GA.2.2.1 21 (by decide) (by decide) (Or.inl (by decide))
  exact CS.self hc
theorem cs_java_lang_Integer (GA : GA l s0 a0 K lam) : ∀ q ∈ ([33] : List Nat), q < 40 ∧ 0 < q ∧ CS s0 q "java/lang/Integer" := by
  intro q hq
  simp only [List.mem_cons, List.not_mem_nil, or_false] at hq
  rcases hq with rfl
  · exact ⟨by decide, by decide, (GA.2.2.1 33 (by decide) (by decide) (Or.inl (by decide))).elim (fun _ hc => CS.self hc)⟩
theorem cs_java_lang_Object (GA : GA l s0 a0 K lam) : ∀ q ∈ ([1, 2, 3, 4, 5, 6, 7, 8, 9, 10, 12, 13, 14, 15, 16, 17, 18, 19, 20, 21, 22, 23, 25, 26, 28, 29, 30, 32, 33, 34, 36, 37, 38] : List Nat), q < 40 ∧ 0 < q ∧ CS s0 q "java/lang/Object" := by
  intro q hq
  simp only [List.mem_cons, List.not_mem_nil, or_false] at hq
  rcases hq with rfl | rfl | rfl | rfl | rfl | rfl | rfl | rfl | rfl | rfl | rfl | rfl | rfl | rfl | rfl | rfl | rfl | rfl | rfl | rfl | rfl | rfl | rfl | rfl | rfl | rfl | rfl | rfl | rfl | rfl | rfl | rfl | rfl
  · exact ⟨by decide, by decide, CS.of (GA.1.2 _ q3508)⟩
  · exact ⟨by decide, by decide, CS.of (GA.1.2 _ q3502)⟩
  · exact ⟨by decide, by decide, CS.of (GA.1.2 _ q3503)⟩
  · exact ⟨by decide, by decide, CS.of (GA.1.2 _ q3510)⟩
  · exact ⟨by decide, by decide, CS.of (GA.1.2 _ q3513)⟩
  · exact ⟨by decide, by decide, CS.of (GA.1.2 _ q3514)⟩
  · exact ⟨by decide, by decide, CS.of (GA.1.2 _ q3505)⟩
  · exact ⟨by decide, by decide, CS.of (GA.1.2 _ q3527)⟩
  · exact ⟨by decide, by decide, CS.of (GA.1.2 _ q3530)⟩
  · exact ⟨by decide, by decide, CS.of (GA.1.2 _ q3535)⟩
  · exact ⟨by decide, by decide, CS.of (GA.1.2 _ q3509)⟩
  · exact ⟨by decide, by decide, CS.of (GA.1.2 _ q3536)⟩
  · exact ⟨by decide, by decide, CS.of (GA.1.2 _ q3534)⟩
  · exact ⟨by decide, by decide, CS.of (GA.1.2 _ q3537)⟩
  · exact ⟨by decide, by decide, CS.of (GA.1.2 _ q3529)⟩
  · exact ⟨by decide, by decide, CS.of (GA.1.2 _ q3522)⟩
  · exact ⟨by decide, by decide, CS.of (GA.1.2 _ q3524)⟩
  · exact ⟨by decide, by decide, CS.of (GA.1.2 _ q3521)⟩
  · exact ⟨by decide, by decide, CS.of (GA.1.2 _ q3512)⟩
  · exact ⟨by decide, by decide, CS.of (GA.1.2 _ q3519)⟩
  · exact ⟨by decide, by decide, CS.of (GA.1.2 _ q3520)⟩
  · exact ⟨by decide, by decide, CS.of (GA.1.2 _ q3528)⟩
  · exact ⟨by decide, by decide, CS.of (GA.1.2 _ q3504)⟩
  · exact ⟨by decide, by decide, CS.of (GA.1.2 _ q3511)⟩
  · exact ⟨by decide, by decide, CS.of (GA.1.2 _ q3506)⟩
  · exact ⟨by decide, by decide, CS.of (GA.1.2 _ q3501)⟩
  · exact ⟨by decide, by decide, CS.of (GA.1.2 _ q3516)⟩
  · exact ⟨by decide, by decide, CS.of (GA.1.2 _ q3517)⟩
  · exact ⟨by decide, by decide, CS.of (GA.1.2 _ q3523)⟩
  · exact ⟨by decide, by decide, CS.of (GA.1.2 _ q3526)⟩
  · exact ⟨by decide, by decide, CS.of (GA.1.2 _ q3507)⟩
  · exact ⟨by decide, by decide, CS.of (GA.1.2 _ q3531)⟩
  · exact ⟨by decide, by decide, CS.of (GA.1.2 _ q3533)⟩
theorem cs_java_lang_String (GA : GA l s0 a0 K lam) : ∀ q ∈ ([34] : List Nat), q < 40 ∧ 0 < q ∧ CS s0 q "java/lang/String" := by
  intro q hq
  simp only [List.mem_cons, List.not_mem_nil, or_false] at hq
  rcases hq with rfl
  · exact ⟨by decide, by decide, (GA.2.2.1 34 (by decide) (by decide) (Or.inl (by decide))).elim (fun _ hc => CS.self hc)⟩
theorem cs_java_util_HashMap_Node (GA : GA l s0 a0 K lam) : ∀ q ∈ ([29] : List Nat), q < 40 ∧ 0 < q ∧ CS s0 q "java/util/HashMap$Node" := by
  intro q hq
  simp only [List.mem_cons, List.not_mem_nil, or_false] at hq
  rcases hq with rfl
  · exact ⟨by decide, by decide, (GA.2.2.1 29 (by decide) (by decide) (Or.inl (by decide))).elim (fun _ hc => CS.self hc)⟩
theorem cs_java_util_HashMap_TreeNode (GA : GA l s0 a0 K lam) : ∀ q ∈ ([] : List Nat), q < 40 ∧ 0 < q ∧ CS s0 q "java/util/HashMap$TreeNode" := fun _ h => nomatch h
theorem cs_java_util_Map_Entry (GA : GA l s0 a0 K lam) : ∀ q ∈ ([29] : List Nat), q < 40 ∧ 0 < q ∧ CS s0 q "java/util/Map$Entry" := by
  intro q hq
  simp only [List.mem_cons, List.not_mem_nil, or_false] at hq
  rcases hq with rfl
  · exact ⟨by decide, by decide, CS.of (GA.1.2 _ q1467)⟩
theorem nc__JumpHall_Socks (GA : GA l s0 a0 K lam) : ∀ q ∈ ([] : List Nat), q < 40 ∧ 0 < q ∧ va_Nc (cname q) "JumpHall$Socks" s0 := fun _ h => nomatch h
theorem nc___B (GA : GA l s0 a0 K lam) : ∀ q ∈ ([] : List Nat), q < 40 ∧ 0 < q ∧ va_Nc (cname q) "[B" s0 := fun _ h => nomatch h
theorem nc__java_lang_Integer (GA : GA l s0 a0 K lam) : ∀ q ∈ ([] : List Nat), q < 40 ∧ 0 < q ∧ va_Nc (cname q) "java/lang/Integer" s0 := fun _ h => nomatch h
theorem nc__java_lang_String (GA : GA l s0 a0 K lam) : ∀ q ∈ ([] : List Nat), q < 40 ∧ 0 < q ∧ va_Nc (cname q) "java/lang/String" s0 := fun _ h => nomatch h
theorem nc_12_13_14_16_17_18_19_20_java_lang_UnsupportedOperationException (GA : GA l s0 a0 K lam) : ∀ q ∈ ([12, 13, 14, 16, 17, 18, 19, 20] : List Nat), q < 40 ∧ 0 < q ∧ va_Nc (cname q) "java/lang/UnsupportedOperationException" s0 := by
  intro q hq
  simp only [List.mem_cons, List.not_mem_nil, or_false] at hq
  rcases hq with rfl | rfl | rfl | rfl | rfl | rfl | rfl | rfl
  · exact ⟨by decide, by decide, nf_12_java_lang_UnsupportedOperationException GA⟩
  · exact ⟨by decide, by decide, nf_13_java_lang_UnsupportedOperationException GA⟩
  · exact ⟨by decide, by decide, nf_14_java_lang_UnsupportedOperationException GA⟩
  · exact ⟨by decide, by decide, nf_16_java_lang_UnsupportedOperationException GA⟩
  · exact ⟨by decide, by decide, nf_17_java_lang_UnsupportedOperationException GA⟩
  · exact ⟨by decide, by decide, nf_18_java_lang_UnsupportedOperationException GA⟩
  · exact ⟨by decide, by decide, nf_19_java_lang_UnsupportedOperationException GA⟩
  · exact ⟨by decide, by decide, nf_20_java_lang_UnsupportedOperationException GA⟩
theorem nc_12_13_14_16_17_18_19_21_java_util_NoSuchElementException (GA : GA l s0 a0 K lam) : ∀ q ∈ ([12, 13, 14, 16, 17, 18, 19, 21] : List Nat), q < 40 ∧ 0 < q ∧ va_Nc (cname q) "java/util/NoSuchElementException" s0 := by
  intro q hq
  simp only [List.mem_cons, List.not_mem_nil, or_false] at hq
  rcases hq with rfl | rfl | rfl | rfl | rfl | rfl | rfl | rfl
  · exact ⟨by decide, by decide, nf_12_java_util_NoSuchElementException GA⟩
  · exact ⟨by decide, by decide, nf_13_java_util_NoSuchElementException GA⟩
  · exact ⟨by decide, by decide, nf_14_java_util_NoSuchElementException GA⟩
  · exact ⟨by decide, by decide, nf_16_java_util_NoSuchElementException GA⟩
  · exact ⟨by decide, by decide, nf_17_java_util_NoSuchElementException GA⟩
  · exact ⟨by decide, by decide, nf_18_java_util_NoSuchElementException GA⟩
  · exact ⟨by decide, by decide, nf_19_java_util_NoSuchElementException GA⟩
  · exact ⟨by decide, by decide, nf_21_java_util_NoSuchElementException GA⟩
theorem nc_12_13_14_16_17_18_20_21_java_lang_IndexOutOfBoundsException (GA : GA l s0 a0 K lam) : ∀ q ∈ ([12, 13, 14, 16, 17, 18, 20, 21] : List Nat), q < 40 ∧ 0 < q ∧ va_Nc (cname q) "java/lang/IndexOutOfBoundsException" s0 := by
  intro q hq
  simp only [List.mem_cons, List.not_mem_nil, or_false] at hq
  rcases hq with rfl | rfl | rfl | rfl | rfl | rfl | rfl | rfl
  · exact ⟨by decide, by decide, nf_12_java_lang_IndexOutOfBoundsException GA⟩
  · exact ⟨by decide, by decide, nf_13_java_lang_IndexOutOfBoundsException GA⟩
  · exact ⟨by decide, by decide, nf_14_java_lang_IndexOutOfBoundsException GA⟩
  · exact ⟨by decide, by decide, nf_16_java_lang_IndexOutOfBoundsException GA⟩
  · exact ⟨by decide, by decide, nf_17_java_lang_IndexOutOfBoundsException GA⟩
  · exact ⟨by decide, by decide, nf_18_java_lang_IndexOutOfBoundsException GA⟩
  · exact ⟨by decide, by decide, nf_20_java_lang_IndexOutOfBoundsException GA⟩
  · exact ⟨by decide, by decide, nf_21_java_lang_IndexOutOfBoundsException GA⟩
theorem nc_12_13_14_16_17_19_20_21_java_lang_IllegalStateException (GA : GA l s0 a0 K lam) : ∀ q ∈ ([12, 13, 14, 16, 17, 19, 20, 21] : List Nat), q < 40 ∧ 0 < q ∧ va_Nc (cname q) "java/lang/IllegalStateException" s0 := by
  intro q hq
  simp only [List.mem_cons, List.not_mem_nil, or_false] at hq
  rcases hq with rfl | rfl | rfl | rfl | rfl | rfl | rfl | rfl
  · exact ⟨by decide, by decide, nf_12_java_lang_IllegalStateException GA⟩
  · exact ⟨by decide, by decide, nf_13_java_lang_IllegalStateException GA⟩
  · exact ⟨by decide, by decide, nf_14_java_lang_IllegalStateException GA⟩
  · exact ⟨by decide, by decide, nf_16_java_lang_IllegalStateException GA⟩
  · exact ⟨by decide, by decide, nf_17_java_lang_IllegalStateException GA⟩
  · exact ⟨by decide, by decide, nf_19_java_lang_IllegalStateException GA⟩
  · exact ⟨by decide, by decide, nf_20_java_lang_IllegalStateException GA⟩
  · exact ⟨by decide, by decide, nf_21_java_lang_IllegalStateException GA⟩
theorem nc_12_13_14_16_18_19_20_21_java_lang_IllegalArgumentException (GA : GA l s0 a0 K lam) : ∀ q ∈ ([12, 13, 14, 16, 18, 19, 20, 21] : List Nat), q < 40 ∧ 0 < q ∧ va_Nc (cname q) "java/lang/IllegalArgumentException" s0 := by
  intro q hq
  simp only [List.mem_cons, List.not_mem_nil, or_false] at hq
  rcases hq with rfl | rfl | rfl | rfl | rfl | rfl | rfl | rfl
  · exact ⟨by decide, by decide, nf_12_java_lang_IllegalArgumentException GA⟩
  · exact ⟨by decide, by decide, nf_13_java_lang_IllegalArgumentException GA⟩
  · exact ⟨by decide, by decide, nf_14_java_lang_IllegalArgumentException GA⟩
  · exact ⟨by decide, by decide, nf_16_java_lang_IllegalArgumentException GA⟩
  · exact ⟨by decide, by decide, nf_18_java_lang_IllegalArgumentException GA⟩
  · exact ⟨by decide, by decide, nf_19_java_lang_IllegalArgumentException GA⟩
  · exact ⟨by decide, by decide, nf_20_java_lang_IllegalArgumentException GA⟩
  · exact ⟨by decide, by decide, nf_21_java_lang_IllegalArgumentException GA⟩
theorem nc_12_13_14_17_18_19_20_21_java_lang_ArithmeticException (GA : GA l s0 a0 K lam) : ∀ q ∈ ([12, 13, 14, 17, 18, 19, 20, 21] : List Nat), q < 40 ∧ 0 < q ∧ va_Nc (cname q) "java/lang/ArithmeticException" s0 := by
  intro q hq
  simp only [List.mem_cons, List.not_mem_nil, or_false] at hq
  rcases hq with rfl | rfl | rfl | rfl | rfl | rfl | rfl | rfl
  · exact ⟨by decide, by decide, nf_12_java_lang_ArithmeticException GA⟩
  · exact ⟨by decide, by decide, nf_13_java_lang_ArithmeticException GA⟩
  · exact ⟨by decide, by decide, nf_14_java_lang_ArithmeticException GA⟩
  · exact ⟨by decide, by decide, nf_17_java_lang_ArithmeticException GA⟩
  · exact ⟨by decide, by decide, nf_18_java_lang_ArithmeticException GA⟩
  · exact ⟨by decide, by decide, nf_19_java_lang_ArithmeticException GA⟩
  · exact ⟨by decide, by decide, nf_20_java_lang_ArithmeticException GA⟩
  · exact ⟨by decide, by decide, nf_21_java_lang_ArithmeticException GA⟩
theorem nc_12_13_16_17_18_19_20_21_JumpHall_BadText (GA : GA l s0 a0 K lam) : ∀ q ∈ ([12, 13, 16, 17, 18, 19, 20, 21] : List Nat), q < 40 ∧ 0 < q ∧ va_Nc (cname q) "JumpHall$BadText" s0 := by
  intro q hq
  simp only [List.mem_cons, List.not_mem_nil, or_false] at hq
  rcases hq with rfl | rfl | rfl | rfl | rfl | rfl | rfl | rfl
  · exact ⟨by decide, by decide, nf_12_JumpHall_BadText GA⟩
  · exact ⟨by decide, by decide, nf_13_JumpHall_BadText GA⟩
  · exact ⟨by decide, by decide, nf_16_JumpHall_BadText GA⟩
  · exact ⟨by decide, by decide, nf_17_JumpHall_BadText GA⟩
  · exact ⟨by decide, by decide, nf_18_JumpHall_BadText GA⟩
  · exact ⟨by decide, by decide, nf_19_JumpHall_BadText GA⟩
  · exact ⟨by decide, by decide, nf_20_JumpHall_BadText GA⟩
  · exact ⟨by decide, by decide, nf_21_JumpHall_BadText GA⟩
theorem nc_12_14_16_17_18_19_20_21_JumpHall_NotThere (GA : GA l s0 a0 K lam) : ∀ q ∈ ([12, 14, 16, 17, 18, 19, 20, 21] : List Nat), q < 40 ∧ 0 < q ∧ va_Nc (cname q) "JumpHall$NotThere" s0 := by
  intro q hq
  simp only [List.mem_cons, List.not_mem_nil, or_false] at hq
  rcases hq with rfl | rfl | rfl | rfl | rfl | rfl | rfl | rfl
  · exact ⟨by decide, by decide, nf_12_JumpHall_NotThere GA⟩
  · exact ⟨by decide, by decide, nf_14_JumpHall_NotThere GA⟩
  · exact ⟨by decide, by decide, nf_16_JumpHall_NotThere GA⟩
  · exact ⟨by decide, by decide, nf_17_JumpHall_NotThere GA⟩
  · exact ⟨by decide, by decide, nf_18_JumpHall_NotThere GA⟩
  · exact ⟨by decide, by decide, nf_19_JumpHall_NotThere GA⟩
  · exact ⟨by decide, by decide, nf_20_JumpHall_NotThere GA⟩
  · exact ⟨by decide, by decide, nf_21_JumpHall_NotThere GA⟩
theorem nc_13_14_16_17_18_19_20_21_JumpHall_Refusal (GA : GA l s0 a0 K lam) : ∀ q ∈ ([13, 14, 16, 17, 18, 19, 20, 21] : List Nat), q < 40 ∧ 0 < q ∧ va_Nc (cname q) "JumpHall$Refusal" s0 := by
  intro q hq
  simp only [List.mem_cons, List.not_mem_nil, or_false] at hq
  rcases hq with rfl | rfl | rfl | rfl | rfl | rfl | rfl | rfl
  · exact ⟨by decide, by decide, nf_13_JumpHall_Refusal GA⟩
  · exact ⟨by decide, by decide, nf_14_JumpHall_Refusal GA⟩
  · exact ⟨by decide, by decide, nf_16_JumpHall_Refusal GA⟩
  · exact ⟨by decide, by decide, nf_17_JumpHall_Refusal GA⟩
  · exact ⟨by decide, by decide, nf_18_JumpHall_Refusal GA⟩
  · exact ⟨by decide, by decide, nf_19_JumpHall_Refusal GA⟩
  · exact ⟨by decide, by decide, nf_20_JumpHall_Refusal GA⟩
  · exact ⟨by decide, by decide, nf_21_JumpHall_Refusal GA⟩
theorem nc_29_java_util_HashMap_TreeNode (GA : GA l s0 a0 K lam) : ∀ q ∈ ([29] : List Nat), q < 40 ∧ 0 < q ∧ va_Nc (cname q) "java/util/HashMap$TreeNode" s0 := by
  intro q hq
  simp only [List.mem_cons, List.not_mem_nil, or_false] at hq
  rcases hq with rfl
  · exact ⟨by decide, by decide, nf_29_java_util_HashMap_TreeNode GA⟩
end GAS
