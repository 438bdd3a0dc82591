set_option maxRecDepth 100000
theorem hcJ0 : RJ0 ≠ "java/lang/invoke/MethodHandle" ∧ RJ0 ≠ "java/lang/invoke/VarHandle" := ⟨by decide +kernel, by decide +kernel⟩
theorem hcJ1 : RJ1 ≠ "java/lang/invoke/MethodHandle" ∧ RJ1 ≠ "java/lang/invoke/VarHandle" := ⟨by decide +kernel, by decide +kernel⟩
theorem hcJ10 : RJ10 ≠ "java/lang/invoke/MethodHandle" ∧ RJ10 ≠ "java/lang/invoke/VarHandle" := ⟨by decide +kernel, by decide +kernel⟩
theorem hcJ11 : RJ11 ≠ "java/lang/invoke/MethodHandle" ∧ RJ11 ≠ "java/lang/invoke/VarHandle" := ⟨by decide +kernel, by decide +kernel⟩
theorem hcJ12 : RJ12 ≠ "java/lang/invoke/MethodHandle" ∧ RJ12 ≠ "java/lang/invoke/VarHandle" := ⟨by decide +kernel, by decide +kernel⟩
theorem hcJ13 : RJ13 ≠ "java/lang/invoke/MethodHandle" ∧ RJ13 ≠ "java/lang/invoke/VarHandle" := ⟨by decide +kernel, by decide +kernel⟩
theorem hcJ14 : RJ14 ≠ "java/lang/invoke/MethodHandle" ∧ RJ14 ≠ "java/lang/invoke/VarHandle" := ⟨by decide +kernel, by decide +kernel⟩
theorem hcJ15 : RJ15 ≠ "java/lang/invoke/MethodHandle" ∧ RJ15 ≠ "java/lang/invoke/VarHandle" := ⟨by decide +kernel, by decide +kernel⟩
theorem hcJ16 : RJ16 ≠ "java/lang/invoke/MethodHandle" ∧ RJ16 ≠ "java/lang/invoke/VarHandle" := ⟨by decide +kernel, by decide +kernel⟩
theorem hcJ17 : RJ17 ≠ "java/lang/invoke/MethodHandle" ∧ RJ17 ≠ "java/lang/invoke/VarHandle" := ⟨by decide +kernel, by decide +kernel⟩
theorem hcJ18 : RJ18 ≠ "java/lang/invoke/MethodHandle" ∧ RJ18 ≠ "java/lang/invoke/VarHandle" := ⟨by decide +kernel, by decide +kernel⟩
theorem hcJ19 : RJ19 ≠ "java/lang/invoke/MethodHandle" ∧ RJ19 ≠ "java/lang/invoke/VarHandle" := ⟨by decide +kernel, by decide +kernel⟩
theorem hcJ2 : RJ2 ≠ "java/lang/invoke/MethodHandle" ∧ RJ2 ≠ "java/lang/invoke/VarHandle" := ⟨by decide +kernel, by decide +kernel⟩
theorem hcJ20 : RJ20 ≠ "java/lang/invoke/MethodHandle" ∧ RJ20 ≠ "java/lang/invoke/VarHandle" := ⟨by decide +kernel, by decide +kernel⟩
theorem hcJ3 : RJ3 ≠ "java/lang/invoke/MethodHandle" ∧ RJ3 ≠ "java/lang/invoke/VarHandle" := ⟨by decide +kernel, by decide +kernel⟩
theorem hcJ4 : RJ4 ≠ "java/lang/invoke/MethodHandle" ∧ RJ4 ≠ "java/lang/invoke/VarHandle" := ⟨by decide +kernel, by decide +kernel⟩
theorem hcJ5 : RJ5 ≠ "java/lang/invoke/MethodHandle" ∧ RJ5 ≠ "java/lang/invoke/VarHandle" := ⟨by decide +kernel, by decide +kernel⟩
theorem hcJ6 : RJ6 ≠ "java/lang/invoke/MethodHandle" ∧ RJ6 ≠ "java/lang/invoke/VarHandle" := ⟨by decide +kernel, by decide +kernel⟩
theorem hcJ7 : RJ7 ≠ "java/lang/invoke/MethodHandle" ∧ RJ7 ≠ "java/lang/invoke/VarHandle" := ⟨by decide +kernel, by decide +kernel⟩
theorem hcJ8 : RJ8 ≠ "java/lang/invoke/MethodHandle" ∧ RJ8 ≠ "java/lang/invoke/VarHandle" := ⟨by decide +kernel, by decide +kernel⟩
theorem hcJ9 : RJ9 ≠ "java/lang/invoke/MethodHandle" ∧ RJ9 ≠ "java/lang/invoke/VarHandle" := ⟨by decide +kernel, by decide +kernel⟩
theorem hcX0 : RX0 ≠ "java/lang/invoke/MethodHandle" ∧ RX0 ≠ "java/lang/invoke/VarHandle" := ⟨by decide +kernel, by decide +kernel⟩
theorem pnX0 : plainName RX0 = true := by decide +kernel
theorem hcX1 : RX1 ≠ "java/lang/invoke/MethodHandle" ∧ RX1 ≠ "java/lang/invoke/VarHandle" := ⟨by decide +kernel, by decide +kernel⟩
theorem pnX1 : plainName RX1 = true := by decide +kernel
theorem hcX10 : RX10 ≠ "java/lang/invoke/MethodHandle" ∧ RX10 ≠ "java/lang/invoke/VarHandle" := ⟨by decide +kernel, by decide +kernel⟩
theorem pnX10 : plainName RX10 = true := by decide +kernel
theorem hcX11 : RX11 ≠ "java/lang/invoke/MethodHandle" ∧ RX11 ≠ "java/lang/invoke/VarHandle" := ⟨by decide +kernel, by decide +kernel⟩
theorem pnX11 : plainName RX11 = true := by decide +kernel
theorem hcX12 : RX12 ≠ "java/lang/invoke/MethodHandle" ∧ RX12 ≠ "java/lang/invoke/VarHandle" := ⟨by decide +kernel, by decide +kernel⟩
theorem pnX12 : plainName RX12 = true := by decide +kernel
theorem hcX13 : RX13 ≠ "java/lang/invoke/MethodHandle" ∧ RX13 ≠ "java/lang/invoke/VarHandle" := ⟨by decide +kernel, by decide +kernel⟩
theorem pnX13 : plainName RX13 = true := by decide +kernel
theorem hcX14 : RX14 ≠ "java/lang/invoke/MethodHandle" ∧ RX14 ≠ "java/lang/invoke/VarHandle" := ⟨by decide +kernel, by decide +kernel⟩
theorem pnX14 : plainName RX14 = true := by decide +kernel
theorem hcX15 : RX15 ≠ "java/lang/invoke/MethodHandle" ∧ RX15 ≠ "java/lang/invoke/VarHandle" := ⟨by decide +kernel, by decide +kernel⟩
theorem pnX15 : plainName RX15 = true := by decide +kernel
theorem hcX16 : RX16 ≠ "java/lang/invoke/MethodHandle" ∧ RX16 ≠ "java/lang/invoke/VarHandle" := ⟨by decide +kernel, by decide +kernel⟩
theorem pnX16 : plainName RX16 = true := by decide +kernel
theorem hcX17 : RX17 ≠ "java/lang/invoke/MethodHandle" ∧ RX17 ≠ "java/lang/invoke/VarHandle" := ⟨by decide +kernel, by decide +kernel⟩
theorem pnX17 : plainName RX17 = true := by decide +kernel
theorem hcX18 : RX18 ≠ "java/lang/invoke/MethodHandle" ∧ RX18 ≠ "java/lang/invoke/VarHandle" := ⟨by decide +kernel, by decide +kernel⟩
theorem pnX18 : plainName RX18 = true := by decide +kernel
theorem hcX19 : RX19 ≠ "java/lang/invoke/MethodHandle" ∧ RX19 ≠ "java/lang/invoke/VarHandle" := ⟨by decide +kernel, by decide +kernel⟩
theorem pnX19 : plainName RX19 = true := by decide +kernel
theorem hcX2 : RX2 ≠ "java/lang/invoke/MethodHandle" ∧ RX2 ≠ "java/lang/invoke/VarHandle" := ⟨by decide +kernel, by decide +kernel⟩
theorem pnX2 : plainName RX2 = true := by decide +kernel
theorem hcX20 : RX20 ≠ "java/lang/invoke/MethodHandle" ∧ RX20 ≠ "java/lang/invoke/VarHandle" := ⟨by decide +kernel, by decide +kernel⟩
theorem pnX20 : plainName RX20 = true := by decide +kernel
theorem hcX21 : RX21 ≠ "java/lang/invoke/MethodHandle" ∧ RX21 ≠ "java/lang/invoke/VarHandle" := ⟨by decide +kernel, by decide +kernel⟩
theorem pnX21 : plainName RX21 = true := by decide +kernel
theorem hcX22 : RX22 ≠ "java/lang/invoke/MethodHandle" ∧ RX22 ≠ "java/lang/invoke/VarHandle" := ⟨by decide +kernel, by decide +kernel⟩
theorem pnX22 : plainName RX22 = true := by decide +kernel
theorem hcX23 : RX23 ≠ "java/lang/invoke/MethodHandle" ∧ RX23 ≠ "java/lang/invoke/VarHandle" := ⟨by decide +kernel, by decide +kernel⟩
theorem pnX23 : plainName RX23 = true := by decide +kernel
theorem hcX24 : RX24 ≠ "java/lang/invoke/MethodHandle" ∧ RX24 ≠ "java/lang/invoke/VarHandle" := ⟨by decide +kernel, by decide +kernel⟩
theorem pnX24 : plainName RX24 = true := by decide +kernel
theorem hcX25 : RX25 ≠ "java/lang/invoke/MethodHandle" ∧ RX25 ≠ "java/lang/invoke/VarHandle" := ⟨by decide +kernel, by decide +kernel⟩
theorem pnX25 : plainName RX25 = true := by decide +kernel
theorem hcX26 : RX26 ≠ "java/lang/invoke/MethodHandle" ∧ RX26 ≠ "java/lang/invoke/VarHandle" := ⟨by decide +kernel, by decide +kernel⟩
theorem pnX26 : plainName RX26 = true := by decide +kernel
theorem hcX27 : RX27 ≠ "java/lang/invoke/MethodHandle" ∧ RX27 ≠ "java/lang/invoke/VarHandle" := ⟨by decide +kernel, by decide +kernel⟩
theorem pnX27 : plainName RX27 = true := by decide +kernel
theorem hcX28 : RX28 ≠ "java/lang/invoke/MethodHandle" ∧ RX28 ≠ "java/lang/invoke/VarHandle" := ⟨by decide +kernel, by decide +kernel⟩
theorem pnX28 : plainName RX28 = true := by decide +kernel
theorem hcX29 : RX29 ≠ "java/lang/invoke/MethodHandle" ∧ RX29 ≠ "java/lang/invoke/VarHandle" := ⟨by decide +kernel, by decide +kernel⟩
theorem pnX29 : plainName RX29 = true := by decide +kernel
theorem hcX3 : RX3 ≠ "java/lang/invoke/MethodHandle" ∧ RX3 ≠ "java/lang/invoke/VarHandle" := ⟨by decide +kernel, by decide +kernel⟩
theorem pnX3 : plainName RX3 = true := by decide +kernel
theorem hcX30 : RX30 ≠ "java/lang/invoke/MethodHandle" ∧ RX30 ≠ "java/lang/invoke/VarHandle" := ⟨by decide +kernel, by decide +kernel⟩
theorem pnX30 : plainName RX30 = true := by decide +kernel
theorem hcX31 : RX31 ≠ "java/lang/invoke/MethodHandle" ∧ RX31 ≠ "java/lang/invoke/VarHandle" := ⟨by decide +kernel, by decide +kernel⟩
theorem pnX31 : plainName RX31 = true := by decide +kernel
theorem hcX32 : RX32 ≠ "java/lang/invoke/MethodHandle" ∧ RX32 ≠ "java/lang/invoke/VarHandle" := ⟨by decide +kernel, by decide +kernel⟩
theorem pnX32 : plainName RX32 = true := by decide +kernel
theorem hcX33 : RX33 ≠ "java/lang/invoke/MethodHandle" ∧ RX33 ≠ "java/lang/invoke/VarHandle" := ⟨by decide +kernel, by decide +kernel⟩
theorem pnX33 : plainName RX33 = true := by decide +kernel
theorem hcX34 : RX34 ≠ "java/lang/invoke/MethodHandle" ∧ RX34 ≠ "java/lang/invoke/VarHandle" := ⟨by decide +kernel, by decide +kernel⟩
theorem pnX34 : plainName RX34 = true := by decide +kernel
theorem hcX35 : RX35 ≠ "java/lang/invoke/MethodHandle" ∧ RX35 ≠ "java/lang/invoke/VarHandle" := ⟨by decide +kernel, by decide +kernel⟩
theorem pnX35 : plainName RX35 = true := by decide +kernel
theorem hcX36 : RX36 ≠ "java/lang/invoke/MethodHandle" ∧ RX36 ≠ "java/lang/invoke/VarHandle" := ⟨by decide +kernel, by decide +kernel⟩
theorem pnX36 : plainName RX36 = true := by decide +kernel
theorem hcX37 : RX37 ≠ "java/lang/invoke/MethodHandle" ∧ RX37 ≠ "java/lang/invoke/VarHandle" := ⟨by decide +kernel, by decide +kernel⟩
theorem pnX37 : plainName RX37 = true := by decide +kernel
theorem hcX38 : RX38 ≠ "java/lang/invoke/MethodHandle" ∧ RX38 ≠ "java/lang/invoke/VarHandle" := ⟨by decide +kernel, by decide +kernel⟩
theorem pnX38 : plainName RX38 = true := by decide +kernel
theorem hcX39 : RX39 ≠ "java/lang/invoke/MethodHandle" ∧ RX39 ≠ "java/lang/invoke/VarHandle" := ⟨by decide +kernel, by decide +kernel⟩
theorem pnX39 : plainName RX39 = true := by decide +kernel
theorem hcX4 : RX4 ≠ "java/lang/invoke/MethodHandle" ∧ RX4 ≠ "java/lang/invoke/VarHandle" := ⟨by decide +kernel, by decide +kernel⟩
theorem pnX4 : plainName RX4 = true := by decide +kernel
theorem hcX40 : RX40 ≠ "java/lang/invoke/MethodHandle" ∧ RX40 ≠ "java/lang/invoke/VarHandle" := ⟨by decide +kernel, by decide +kernel⟩
theorem pnX40 : plainName RX40 = true := by decide +kernel
theorem hcX41 : RX41 ≠ "java/lang/invoke/MethodHandle" ∧ RX41 ≠ "java/lang/invoke/VarHandle" := ⟨by decide +kernel, by decide +kernel⟩
theorem pnX41 : plainName RX41 = true := by decide +kernel
theorem hcX42 : RX42 ≠ "java/lang/invoke/MethodHandle" ∧ RX42 ≠ "java/lang/invoke/VarHandle" := ⟨by decide +kernel, by decide +kernel⟩
theorem pnX42 : plainName RX42 = true := by decide +kernel
theorem hcX5 : RX5 ≠ "java/lang/invoke/MethodHandle" ∧ RX5 ≠ "java/lang/invoke/VarHandle" := ⟨by decide +kernel, by decide +kernel⟩
theorem pnX5 : plainName RX5 = true := by decide +kernel
theorem hcX6 : RX6 ≠ "java/lang/invoke/MethodHandle" ∧ RX6 ≠ "java/lang/invoke/VarHandle" := ⟨by decide +kernel, by decide +kernel⟩
theorem pnX6 : plainName RX6 = true := by decide +kernel
theorem hcX7 : RX7 ≠ "java/lang/invoke/MethodHandle" ∧ RX7 ≠ "java/lang/invoke/VarHandle" := ⟨by decide +kernel, by decide +kernel⟩
theorem pnX7 : plainName RX7 = true := by decide +kernel
theorem hcX8 : RX8 ≠ "java/lang/invoke/MethodHandle" ∧ RX8 ≠ "java/lang/invoke/VarHandle" := ⟨by decide +kernel, by decide +kernel⟩
theorem pnX8 : plainName RX8 = true := by decide +kernel
theorem hcX9 : RX9 ≠ "java/lang/invoke/MethodHandle" ∧ RX9 ≠ "java/lang/invoke/VarHandle" := ⟨by decide +kernel, by decide +kernel⟩
theorem pnX9 : plainName RX9 = true := by decide +kernel
theorem pd__p_qB : (parseMethodDescriptor "()B").map (fun d => d.parameters.length) = some 0 := by decide +kernel
theorem pd__p_qI : (parseMethodDescriptor "()I").map (fun d => d.parameters.length) = some 0 := by decide +kernel
theorem pd__p_qJ : (parseMethodDescriptor "()J").map (fun d => d.parameters.length) = some 0 := by decide +kernel
theorem pd__p_qLLandMap_dFeature_c : (parseMethodDescriptor "()LLandMap$Feature;").map (fun d => d.parameters.length) = some 0 := by decide +kernel
theorem pd__p_qLLandMap_dRaster_c : (parseMethodDescriptor "()LLandMap$Raster;").map (fun d => d.parameters.length) = some 0 := by decide +kernel
theorem pd__p_qLLandMap_dState_c : (parseMethodDescriptor "()LLandMap$State;").map (fun d => d.parameters.length) = some 0 := by decide +kernel
theorem pd__p_qLLandMapModel_dRaster_c : (parseMethodDescriptor "()LLandMapModel$Raster;").map (fun d => d.parameters.length) = some 0 := by decide +kernel
theorem pd__p_qLjava_slang_sIllegalStateException_c : (parseMethodDescriptor "()Ljava/lang/IllegalStateException;").map (fun d => d.parameters.length) = some 0 := by decide +kernel
theorem pd__p_qLjava_slang_sString_c : (parseMethodDescriptor "()Ljava/lang/String;").map (fun d => d.parameters.length) = some 0 := by decide +kernel
theorem pd__p_qV : (parseMethodDescriptor "()V").map (fun d => d.parameters.length) = some 0 := by decide +kernel
theorem pd__p_qZ : (parseMethodDescriptor "()Z").map (fun d => d.parameters.length) = some 0 := by decide +kernel
theorem pd__p_q_aB : (parseMethodDescriptor "()[B").map (fun d => d.parameters.length) = some 0 := by decide +kernel
theorem pd__p_q_aJ : (parseMethodDescriptor "()[J").map (fun d => d.parameters.length) = some 0 := by decide +kernel
theorem pd__p_q_aLjava_slang_sObject_c : (parseMethodDescriptor "()[Ljava/lang/Object;").map (fun d => d.parameters.length) = some 0 := by decide +kernel
theorem pd__pC_qLjava_slang_sAbstractStringBuilder_c : (parseMethodDescriptor "(C)Ljava/lang/AbstractStringBuilder;").map (fun d => d.parameters.length) = some 1 := by decide +kernel
theorem pd__pC_qLjava_slang_sStringBuilder_c : (parseMethodDescriptor "(C)Ljava/lang/StringBuilder;").map (fun d => d.parameters.length) = some 1 := by decide +kernel
theorem pd__pC_qV : (parseMethodDescriptor "(C)V").map (fun d => d.parameters.length) = some 1 := by decide +kernel
theorem pd__pC_qZ : (parseMethodDescriptor "(C)Z").map (fun d => d.parameters.length) = some 1 := by decide +kernel
theorem pd__pI_qC : (parseMethodDescriptor "(I)C").map (fun d => d.parameters.length) = some 1 := by decide +kernel
theorem pd__pI_qI : (parseMethodDescriptor "(I)I").map (fun d => d.parameters.length) = some 1 := by decide +kernel
theorem pd__pI_qJ : (parseMethodDescriptor "(I)J").map (fun d => d.parameters.length) = some 1 := by decide +kernel
theorem pd__pI_qLLandMap_dFeature_c : (parseMethodDescriptor "(I)LLandMap$Feature;").map (fun d => d.parameters.length) = some 1 := by decide +kernel
theorem pd__pI_qLLandMap_dLayer_c : (parseMethodDescriptor "(I)LLandMap$Layer;").map (fun d => d.parameters.length) = some 1 := by decide +kernel
theorem pd__pI_qLLandMap_dRaster_c : (parseMethodDescriptor "(I)LLandMap$Raster;").map (fun d => d.parameters.length) = some 1 := by decide +kernel
theorem pd__pI_qLjava_slang_sIllegalStateException_c : (parseMethodDescriptor "(I)Ljava/lang/IllegalStateException;").map (fun d => d.parameters.length) = some 1 := by decide +kernel
theorem pd__pI_qLjava_slang_sInteger_c : (parseMethodDescriptor "(I)Ljava/lang/Integer;").map (fun d => d.parameters.length) = some 1 := by decide +kernel
theorem pd__pI_qLjava_slang_sObject_c : (parseMethodDescriptor "(I)Ljava/lang/Object;").map (fun d => d.parameters.length) = some 1 := by decide +kernel
theorem pd__pI_qV : (parseMethodDescriptor "(I)V").map (fun d => d.parameters.length) = some 1 := by decide +kernel
theorem pd__pI_qZ : (parseMethodDescriptor "(I)Z").map (fun d => d.parameters.length) = some 1 := by decide +kernel
theorem pd__pI_q_aB : (parseMethodDescriptor "(I)[B").map (fun d => d.parameters.length) = some 1 := by decide +kernel
theorem pd__pI_q_aI : (parseMethodDescriptor "(I)[I").map (fun d => d.parameters.length) = some 1 := by decide +kernel
theorem pd__pI_q_aLLandMapModel_dFeature_c : (parseMethodDescriptor "(I)[LLandMapModel$Feature;").map (fun d => d.parameters.length) = some 1 := by decide +kernel
theorem pd__pI_q_aLjava_slang_sObject_c : (parseMethodDescriptor "(I)[Ljava/lang/Object;").map (fun d => d.parameters.length) = some 1 := by decide +kernel
theorem pd__pII_qI : (parseMethodDescriptor "(II)I").map (fun d => d.parameters.length) = some 2 := by decide +kernel
theorem pd__pII_qJ : (parseMethodDescriptor "(II)J").map (fun d => d.parameters.length) = some 2 := by decide +kernel
theorem pd__pII_qLLandMap_dFeature_c : (parseMethodDescriptor "(II)LLandMap$Feature;").map (fun d => d.parameters.length) = some 2 := by decide +kernel
theorem pd__pII_qLLandMapModel_dFeature_c : (parseMethodDescriptor "(II)LLandMapModel$Feature;").map (fun d => d.parameters.length) = some 2 := by decide +kernel
theorem pd__pII_qLjava_slang_sIllegalStateException_c : (parseMethodDescriptor "(II)Ljava/lang/IllegalStateException;").map (fun d => d.parameters.length) = some 2 := by decide +kernel
theorem pd__pII_qV : (parseMethodDescriptor "(II)V").map (fun d => d.parameters.length) = some 2 := by decide +kernel
theorem pd__pII_qZ : (parseMethodDescriptor "(II)Z").map (fun d => d.parameters.length) = some 2 := by decide +kernel
theorem pd__pIII_qI : (parseMethodDescriptor "(III)I").map (fun d => d.parameters.length) = some 3 := by decide +kernel
theorem pd__pIII_qJ : (parseMethodDescriptor "(III)J").map (fun d => d.parameters.length) = some 3 := by decide +kernel
theorem pd__pIII_qV : (parseMethodDescriptor "(III)V").map (fun d => d.parameters.length) = some 3 := by decide +kernel
theorem pd__pIII_qZ : (parseMethodDescriptor "(III)Z").map (fun d => d.parameters.length) = some 3 := by decide +kernel
theorem pd__pIIII_qI : (parseMethodDescriptor "(IIII)I").map (fun d => d.parameters.length) = some 4 := by decide +kernel
theorem pd__pIIII_qLLandMap_dFeature_c : (parseMethodDescriptor "(IIII)LLandMap$Feature;").map (fun d => d.parameters.length) = some 4 := by decide +kernel
theorem pd__pIIII_qV : (parseMethodDescriptor "(IIII)V").map (fun d => d.parameters.length) = some 4 := by decide +kernel
theorem pd__pIIIII_qI : (parseMethodDescriptor "(IIIII)I").map (fun d => d.parameters.length) = some 5 := by decide +kernel
theorem pd__pIIIII_qV : (parseMethodDescriptor "(IIIII)V").map (fun d => d.parameters.length) = some 5 := by decide +kernel
theorem pd__pIIIIII_qJ : (parseMethodDescriptor "(IIIIII)J").map (fun d => d.parameters.length) = some 6 := by decide +kernel
theorem pd__pIIIIII_qZ : (parseMethodDescriptor "(IIIIII)Z").map (fun d => d.parameters.length) = some 6 := by decide +kernel
theorem pd__pIIIILLandMap_dRules_cLLandMap_dLaid_c_qI : (parseMethodDescriptor "(IIIILLandMap$Rules;LLandMap$Laid;)I").map (fun d => d.parameters.length) = some 6 := by decide +kernel
theorem pd__pIIILjava_sutil_sfunction_sBiFunction_c_qI : (parseMethodDescriptor "(IIILjava/util/function/BiFunction;)I").map (fun d => d.parameters.length) = some 4 := by decide +kernel
theorem pd__pIII_aLLandMapModel_dRaster_cII_qV : (parseMethodDescriptor "(III[LLandMapModel$Raster;II)V").map (fun d => d.parameters.length) = some 6 := by decide +kernel
theorem pd__pIIJJ_qI : (parseMethodDescriptor "(IIJJ)I").map (fun d => d.parameters.length) = some 4 := by decide +kernel
theorem pd__pIILLandMapModel_dFeature_c_qV : (parseMethodDescriptor "(IILLandMapModel$Feature;)V").map (fun d => d.parameters.length) = some 3 := by decide +kernel
theorem pd__pIILjava_sutil_sfunction_sBiFunction_c_qI : (parseMethodDescriptor "(IILjava/util/function/BiFunction;)I").map (fun d => d.parameters.length) = some 3 := by decide +kernel
theorem pd__pIIZ_qI : (parseMethodDescriptor "(IIZ)I").map (fun d => d.parameters.length) = some 3 := by decide +kernel
theorem pd__pIIZ_qZ : (parseMethodDescriptor "(IIZ)Z").map (fun d => d.parameters.length) = some 3 := by decide +kernel
theorem pd__pII_aB_qV : (parseMethodDescriptor "(II[B)V").map (fun d => d.parameters.length) = some 3 := by decide +kernel
theorem pd__pII_aI_aI_qV : (parseMethodDescriptor "(II[I[I)V").map (fun d => d.parameters.length) = some 4 := by decide +kernel
theorem pd__pII_aI_aI_aI_qV : (parseMethodDescriptor "(II[I[I[I)V").map (fun d => d.parameters.length) = some 5 := by decide +kernel
theorem pd__pII_a_aI_qV : (parseMethodDescriptor "(II[[I)V").map (fun d => d.parameters.length) = some 3 := by decide +kernel
theorem pd__pIJ_qJ : (parseMethodDescriptor "(IJ)J").map (fun d => d.parameters.length) = some 2 := by decide +kernel
theorem pd__pIJI_qV : (parseMethodDescriptor "(IJI)V").map (fun d => d.parameters.length) = some 3 := by decide +kernel
theorem pd__pIJJ_qJ : (parseMethodDescriptor "(IJJ)J").map (fun d => d.parameters.length) = some 3 := by decide +kernel
theorem pd__pILLandMap_dFeature_c_qLLandMap_dLayer_c : (parseMethodDescriptor "(ILLandMap$Feature;)LLandMap$Layer;").map (fun d => d.parameters.length) = some 2 := by decide +kernel
theorem pd__pILLandMap_dLayer_c_qV : (parseMethodDescriptor "(ILLandMap$Layer;)V").map (fun d => d.parameters.length) = some 2 := by decide +kernel
theorem pd__pILLandMap_dSorter_c_qV : (parseMethodDescriptor "(ILLandMap$Sorter;)V").map (fun d => d.parameters.length) = some 2 := by decide +kernel
theorem pd__pILjava_slang_sObject_c_qLjava_slang_sObject_c : (parseMethodDescriptor "(ILjava/lang/Object;)Ljava/lang/Object;").map (fun d => d.parameters.length) = some 2 := by decide +kernel
theorem pd__pIZ_qLLandMapModel_dFeature_c : (parseMethodDescriptor "(IZ)LLandMapModel$Feature;").map (fun d => d.parameters.length) = some 2 := by decide +kernel
theorem pd__pIZ_qV : (parseMethodDescriptor "(IZ)V").map (fun d => d.parameters.length) = some 2 := by decide +kernel
theorem pd__pIZZ_qZ : (parseMethodDescriptor "(IZZ)Z").map (fun d => d.parameters.length) = some 3 := by decide +kernel
theorem pd__pI_aB_qV : (parseMethodDescriptor "(I[B)V").map (fun d => d.parameters.length) = some 2 := by decide +kernel
theorem pd__pI_aBII_qI : (parseMethodDescriptor "(I[BII)I").map (fun d => d.parameters.length) = some 4 := by decide +kernel
theorem pd__pI_aCII_qI : (parseMethodDescriptor "(I[CII)I").map (fun d => d.parameters.length) = some 4 := by decide +kernel
theorem pd__pI_aII_qV : (parseMethodDescriptor "(I[II)V").map (fun d => d.parameters.length) = some 3 := by decide +kernel
theorem pd__pI_aIII_qI : (parseMethodDescriptor "(I[III)I").map (fun d => d.parameters.length) = some 4 := by decide +kernel
theorem pd__pI_aJIII_qJ : (parseMethodDescriptor "(I[JIII)J").map (fun d => d.parameters.length) = some 5 := by decide +kernel
theorem pd__pI_aLLandMapModel_dFeature_cI_qLLandMapModel_dState_c : (parseMethodDescriptor "(I[LLandMapModel$Feature;I)LLandMapModel$State;").map (fun d => d.parameters.length) = some 3 := by decide +kernel
theorem pd__pI_aSII_qI : (parseMethodDescriptor "(I[SII)I").map (fun d => d.parameters.length) = some 4 := by decide +kernel
theorem pd__pI_aZ_qV : (parseMethodDescriptor "(I[Z)V").map (fun d => d.parameters.length) = some 2 := by decide +kernel
theorem pd__pJ_qI : (parseMethodDescriptor "(J)I").map (fun d => d.parameters.length) = some 1 := by decide +kernel
theorem pd__pJ_qJ : (parseMethodDescriptor "(J)J").map (fun d => d.parameters.length) = some 1 := by decide +kernel
theorem pd__pJJ_qI : (parseMethodDescriptor "(JJ)I").map (fun d => d.parameters.length) = some 2 := by decide +kernel
theorem pd__pJJ_qJ : (parseMethodDescriptor "(JJ)J").map (fun d => d.parameters.length) = some 2 := by decide +kernel
theorem pd__pJJI_qI : (parseMethodDescriptor "(JJI)I").map (fun d => d.parameters.length) = some 3 := by decide +kernel
theorem pd__pJJJJ_qZ : (parseMethodDescriptor "(JJJJ)Z").map (fun d => d.parameters.length) = some 4 := by decide +kernel
theorem pd__pJJJJJJ_qJ : (parseMethodDescriptor "(JJJJJJ)J").map (fun d => d.parameters.length) = some 6 := by decide +kernel
theorem pd__pJJJJJJ_qZ : (parseMethodDescriptor "(JJJJJJ)Z").map (fun d => d.parameters.length) = some 6 := by decide +kernel
theorem pd__pJJJJJJJJ_qI : (parseMethodDescriptor "(JJJJJJJJ)I").map (fun d => d.parameters.length) = some 8 := by decide +kernel
theorem pd__pJJZ_qV : (parseMethodDescriptor "(JJZ)V").map (fun d => d.parameters.length) = some 3 := by decide +kernel
theorem pd__pLLandMap_dDraft_cI_qV : (parseMethodDescriptor "(LLandMap$Draft;I)V").map (fun d => d.parameters.length) = some 2 := by decide +kernel
theorem pd__pLLandMap_dDraft_cLLandMap_dLayer_c_qV : (parseMethodDescriptor "(LLandMap$Draft;LLandMap$Layer;)V").map (fun d => d.parameters.length) = some 2 := by decide +kernel
theorem pd__pLLandMap_dFeature_c_qV : (parseMethodDescriptor "(LLandMap$Feature;)V").map (fun d => d.parameters.length) = some 1 := by decide +kernel
theorem pd__pLLandMap_dFeature_c_qZ : (parseMethodDescriptor "(LLandMap$Feature;)Z").map (fun d => d.parameters.length) = some 1 := by decide +kernel
theorem pd__pLLandMap_dFeature_cI_qV : (parseMethodDescriptor "(LLandMap$Feature;I)V").map (fun d => d.parameters.length) = some 2 := by decide +kernel
theorem pd__pLLandMap_dFeature_cI_qZ : (parseMethodDescriptor "(LLandMap$Feature;I)Z").map (fun d => d.parameters.length) = some 2 := by decide +kernel
theorem pd__pLLandMap_dFeature_cII_qV : (parseMethodDescriptor "(LLandMap$Feature;II)V").map (fun d => d.parameters.length) = some 3 := by decide +kernel
theorem pd__pLLandMap_dFeature_cIII_qV : (parseMethodDescriptor "(LLandMap$Feature;III)V").map (fun d => d.parameters.length) = some 4 := by decide +kernel
theorem pd__pLLandMap_dFeature_cLLandMap_dFeature_cLLandMap_dLaid_c_qZ : (parseMethodDescriptor "(LLandMap$Feature;LLandMap$Feature;LLandMap$Laid;)Z").map (fun d => d.parameters.length) = some 3 := by decide +kernel
theorem pd__pLLandMap_dFeature_cLLandMap_dLaid_c_qI : (parseMethodDescriptor "(LLandMap$Feature;LLandMap$Laid;)I").map (fun d => d.parameters.length) = some 2 := by decide +kernel
theorem pd__pLLandMap_dFeature_cLLandMap_dPlane_cLLandMap_dFaces_c_qI : (parseMethodDescriptor "(LLandMap$Feature;LLandMap$Plane;LLandMap$Faces;)I").map (fun d => d.parameters.length) = some 3 := by decide +kernel
theorem pd__pLLandMap_dLaid_c_qV : (parseMethodDescriptor "(LLandMap$Laid;)V").map (fun d => d.parameters.length) = some 1 := by decide +kernel
theorem pd__pLLandMap_dLaid_cIZ_qI : (parseMethodDescriptor "(LLandMap$Laid;IZ)I").map (fun d => d.parameters.length) = some 3 := by decide +kernel
theorem pd__pLLandMap_dPlane_c_qV : (parseMethodDescriptor "(LLandMap$Plane;)V").map (fun d => d.parameters.length) = some 1 := by decide +kernel
theorem pd__pLLandMap_dRaster_c_qI : (parseMethodDescriptor "(LLandMap$Raster;)I").map (fun d => d.parameters.length) = some 1 := by decide +kernel
theorem pd__pLLandMap_dRaster_c_qZ : (parseMethodDescriptor "(LLandMap$Raster;)Z").map (fun d => d.parameters.length) = some 1 := by decide +kernel
theorem pd__pLLandMap_dRaster_cLLandMap_dRaster_c_qLLandMap_dRaster_c : (parseMethodDescriptor "(LLandMap$Raster;LLandMap$Raster;)LLandMap$Raster;").map (fun d => d.parameters.length) = some 2 := by decide +kernel
theorem pd__pLLandMap_dScan_c_qV : (parseMethodDescriptor "(LLandMap$Scan;)V").map (fun d => d.parameters.length) = some 1 := by decide +kernel
theorem pd__pLLandMap_dScan_cLjava_sutil_sArrayList_c_qV : (parseMethodDescriptor "(LLandMap$Scan;Ljava/util/ArrayList;)V").map (fun d => d.parameters.length) = some 2 := by decide +kernel
theorem pd__pLLandMap_dState_c_qV : (parseMethodDescriptor "(LLandMap$State;)V").map (fun d => d.parameters.length) = some 1 := by decide +kernel
theorem pd__pLLandMap_dState_cILLandMap_dLayer_c_qLLandMap_dState_c : (parseMethodDescriptor "(LLandMap$State;ILLandMap$Layer;)LLandMap$State;").map (fun d => d.parameters.length) = some 3 := by decide +kernel
theorem pd__pLLandMap_dStop_c_qV : (parseMethodDescriptor "(LLandMap$Stop;)V").map (fun d => d.parameters.length) = some 1 := by decide +kernel
theorem pd__pLLandMapModel_dAlgebra_c_aLLandMapModel_dRaster_cLLandMapModel_dRaster_c_qV : (parseMethodDescriptor "(LLandMapModel$Algebra;[LLandMapModel$Raster;LLandMapModel$Raster;)V").map (fun d => d.parameters.length) = some 3 := by decide +kernel
theorem pd__pLLandMapModel_dFeature_c_qI : (parseMethodDescriptor "(LLandMapModel$Feature;)I").map (fun d => d.parameters.length) = some 1 := by decide +kernel
theorem pd__pLLandMapModel_dFeature_c_qV : (parseMethodDescriptor "(LLandMapModel$Feature;)V").map (fun d => d.parameters.length) = some 1 := by decide +kernel
theorem pd__pLLandMapModel_dFeature_cI_qZ : (parseMethodDescriptor "(LLandMapModel$Feature;I)Z").map (fun d => d.parameters.length) = some 2 := by decide +kernel
theorem pd__pLLandMapModel_dFeature_cII_qZ : (parseMethodDescriptor "(LLandMapModel$Feature;II)Z").map (fun d => d.parameters.length) = some 3 := by decide +kernel
theorem pd__pLLandMapModel_dFeature_cIIII_qI : (parseMethodDescriptor "(LLandMapModel$Feature;IIII)I").map (fun d => d.parameters.length) = some 5 := by decide +kernel
theorem pd__pLLandMapModel_dFeature_cIIII_qV : (parseMethodDescriptor "(LLandMapModel$Feature;IIII)V").map (fun d => d.parameters.length) = some 5 := by decide +kernel
theorem pd__pLLandMapModel_dFeature_cIZ_qV : (parseMethodDescriptor "(LLandMapModel$Feature;IZ)V").map (fun d => d.parameters.length) = some 3 := by decide +kernel
theorem pd__pLLandMapModel_dFeature_cLLandMapModel_dFeature_c_qZ : (parseMethodDescriptor "(LLandMapModel$Feature;LLandMapModel$Feature;)Z").map (fun d => d.parameters.length) = some 2 := by decide +kernel
theorem pd__pLLandMapModel_dLaid_cIZI_qLjava_sutil_sArrayList_c : (parseMethodDescriptor "(LLandMapModel$Laid;IZI)Ljava/util/ArrayList;").map (fun d => d.parameters.length) = some 4 := by decide +kernel
theorem pd__pLLandMapModel_dLaid_c_aI_aII_qJ : (parseMethodDescriptor "(LLandMapModel$Laid;[I[II)J").map (fun d => d.parameters.length) = some 4 := by decide +kernel
theorem pd__pLLandMapModel_dNet_cI_qV : (parseMethodDescriptor "(LLandMapModel$Net;I)V").map (fun d => d.parameters.length) = some 2 := by decide +kernel
theorem pd__pLLandMapModel_dNet_cII_qZ : (parseMethodDescriptor "(LLandMapModel$Net;II)Z").map (fun d => d.parameters.length) = some 3 := by decide +kernel
theorem pd__pLLandMapModel_dNet_cLLandMapModel_dFeature_cI_qV : (parseMethodDescriptor "(LLandMapModel$Net;LLandMapModel$Feature;I)V").map (fun d => d.parameters.length) = some 3 := by decide +kernel
theorem pd__pLLandMapModel_dNet_cLLandMapModel_dPlaces_c_qV : (parseMethodDescriptor "(LLandMapModel$Net;LLandMapModel$Places;)V").map (fun d => d.parameters.length) = some 2 := by decide +kernel
theorem pd__pLLandMapModel_dRaster_c_qI : (parseMethodDescriptor "(LLandMapModel$Raster;)I").map (fun d => d.parameters.length) = some 1 := by decide +kernel
theorem pd__pLLandMapModel_dRaster_c_qZ : (parseMethodDescriptor "(LLandMapModel$Raster;)Z").map (fun d => d.parameters.length) = some 1 := by decide +kernel
theorem pd__pLLandMapModel_dRaster_cI_qV : (parseMethodDescriptor "(LLandMapModel$Raster;I)V").map (fun d => d.parameters.length) = some 2 := by decide +kernel
theorem pd__pLLandMapModel_dRaster_cI_qZ : (parseMethodDescriptor "(LLandMapModel$Raster;I)Z").map (fun d => d.parameters.length) = some 2 := by decide +kernel
theorem pd__pLLandMapModel_dRaster_cLLandMapModel_dRaster_cI_qV : (parseMethodDescriptor "(LLandMapModel$Raster;LLandMapModel$Raster;I)V").map (fun d => d.parameters.length) = some 3 := by decide +kernel
theorem pd__pLLandMapModel_dRaster_cLLandMapModel_dRaster_cLLandMapModel_dRaster_c_qV : (parseMethodDescriptor "(LLandMapModel$Raster;LLandMapModel$Raster;LLandMapModel$Raster;)V").map (fun d => d.parameters.length) = some 3 := by decide +kernel
theorem pd__pLLandMapModel_dState_c_qV : (parseMethodDescriptor "(LLandMapModel$State;)V").map (fun d => d.parameters.length) = some 1 := by decide +kernel
theorem pd__pLLandMapModel_dTrouble_c_aBI_qV : (parseMethodDescriptor "(LLandMapModel$Trouble;[BI)V").map (fun d => d.parameters.length) = some 3 := by decide +kernel
theorem pd__pLLandMapModel_dTrouble_c_aBI_aI_qV : (parseMethodDescriptor "(LLandMapModel$Trouble;[BI[I)V").map (fun d => d.parameters.length) = some 4 := by decide +kernel
theorem pd__pLLandMapModel_dTrouble_c_aBI_aLLandMapModel_dRaster_cI_qV : (parseMethodDescriptor "(LLandMapModel$Trouble;[BI[LLandMapModel$Raster;I)V").map (fun d => d.parameters.length) = some 5 := by decide +kernel
theorem pd__pLjava_slang_sAbstractStringBuilder_cLjava_slang_sVoid_c_qV : (parseMethodDescriptor "(Ljava/lang/AbstractStringBuilder;Ljava/lang/Void;)V").map (fun d => d.parameters.length) = some 2 := by decide +kernel
theorem pd__pLjava_slang_sObject_c_qZ : (parseMethodDescriptor "(Ljava/lang/Object;)Z").map (fun d => d.parameters.length) = some 1 := by decide +kernel
theorem pd__pLjava_slang_sObject_cIIII_qI : (parseMethodDescriptor "(Ljava/lang/Object;IIII)I").map (fun d => d.parameters.length) = some 5 := by decide +kernel
theorem pd__pLjava_slang_sObject_c_aLjava_slang_sObject_cI_qV : (parseMethodDescriptor "(Ljava/lang/Object;[Ljava/lang/Object;I)V").map (fun d => d.parameters.length) = some 3 := by decide +kernel
theorem pd__pLjava_slang_sString_c_qI : (parseMethodDescriptor "(Ljava/lang/String;)I").map (fun d => d.parameters.length) = some 1 := by decide +kernel
theorem pd__pLjava_slang_sString_cII_qV : (parseMethodDescriptor "(Ljava/lang/String;II)V").map (fun d => d.parameters.length) = some 3 := by decide +kernel
theorem pd__pLjava_slang_sStringBuilder_c_qV : (parseMethodDescriptor "(Ljava/lang/StringBuilder;)V").map (fun d => d.parameters.length) = some 1 := by decide +kernel
theorem pd__pLjava_sutil_sArrayList_c_qV : (parseMethodDescriptor "(Ljava/util/ArrayList;)V").map (fun d => d.parameters.length) = some 1 := by decide +kernel
theorem pd__pZ_qZ : (parseMethodDescriptor "(Z)Z").map (fun d => d.parameters.length) = some 1 := by decide +kernel
theorem pd__pZII_qI : (parseMethodDescriptor "(ZII)I").map (fun d => d.parameters.length) = some 3 := by decide +kernel
theorem pd__p_aB_qI : (parseMethodDescriptor "([B)I").map (fun d => d.parameters.length) = some 1 := by decide +kernel
theorem pd__p_aBI_qB : (parseMethodDescriptor "([BI)B").map (fun d => d.parameters.length) = some 2 := by decide +kernel
theorem pd__p_aBI_qC : (parseMethodDescriptor "([BI)C").map (fun d => d.parameters.length) = some 2 := by decide +kernel
theorem pd__p_aBI_qV : (parseMethodDescriptor "([BI)V").map (fun d => d.parameters.length) = some 2 := by decide +kernel
theorem pd__p_aBI_q_aB : (parseMethodDescriptor "([BI)[B").map (fun d => d.parameters.length) = some 2 := by decide +kernel
theorem pd__p_aBII_qV : (parseMethodDescriptor "([BII)V").map (fun d => d.parameters.length) = some 3 := by decide +kernel
theorem pd__p_aBII_q_aB : (parseMethodDescriptor "([BII)[B").map (fun d => d.parameters.length) = some 3 := by decide +kernel
theorem pd__p_aBI_aBII_qI : (parseMethodDescriptor "([BI[BII)I").map (fun d => d.parameters.length) = some 5 := by decide +kernel
theorem pd__p_aBI_aBII_qV : (parseMethodDescriptor "([BI[BII)V").map (fun d => d.parameters.length) = some 5 := by decide +kernel
theorem pd__p_aB_aB_qZ : (parseMethodDescriptor "([B[B)Z").map (fun d => d.parameters.length) = some 2 := by decide +kernel
theorem pd__p_aI_qJ : (parseMethodDescriptor "([I)J").map (fun d => d.parameters.length) = some 1 := by decide +kernel
theorem pd__p_aII_q_aI : (parseMethodDescriptor "([II)[I").map (fun d => d.parameters.length) = some 2 := by decide +kernel
theorem pd__p_aI_aI_qI : (parseMethodDescriptor "([I[I)I").map (fun d => d.parameters.length) = some 2 := by decide +kernel
theorem pd__p_aI_aI_qZ : (parseMethodDescriptor "([I[I)Z").map (fun d => d.parameters.length) = some 2 := by decide +kernel
theorem pd__p_aI_aZ_qV : (parseMethodDescriptor "([I[Z)V").map (fun d => d.parameters.length) = some 2 := by decide +kernel
theorem pd__p_aJI_qV : (parseMethodDescriptor "([JI)V").map (fun d => d.parameters.length) = some 2 := by decide +kernel
theorem pd__p_aJII_qJ : (parseMethodDescriptor "([JII)J").map (fun d => d.parameters.length) = some 3 := by decide +kernel
theorem pd__p_aJIII_qV : (parseMethodDescriptor "([JIII)V").map (fun d => d.parameters.length) = some 4 := by decide +kernel
theorem pd__p_aLjava_slang_sObject_cI_qV : (parseMethodDescriptor "([Ljava/lang/Object;I)V").map (fun d => d.parameters.length) = some 2 := by decide +kernel
theorem pd__p_aLjava_slang_sObject_cI_q_aLjava_slang_sObject_c : (parseMethodDescriptor "([Ljava/lang/Object;I)[Ljava/lang/Object;").map (fun d => d.parameters.length) = some 2 := by decide +kernel
theorem pd__p_aLjava_slang_sObject_cILjava_slang_sClass_c_q_aLjava_slang_sObject_c : (parseMethodDescriptor "([Ljava/lang/Object;ILjava/lang/Class;)[Ljava/lang/Object;").map (fun d => d.parameters.length) = some 3 := by decide +kernel
theorem pd__p_a_aLLandMapModel_dFeature_c_aI_qV : (parseMethodDescriptor "([[LLandMapModel$Feature;[I)V").map (fun d => d.parameters.length) = some 2 := by decide +kernel
theorem pfJ8_max : plainFor ⟨RJ8, "max", "(II)I"⟩ = true := by decide +kernel
theorem pfJ8_min : plainFor ⟨RJ8, "min", "(II)I"⟩ = true := by decide +kernel
theorem pfJ8_abs : plainFor ⟨RJ8, "abs", "(I)I"⟩ = true := by decide +kernel
theorem pfJ8_min_2 : plainFor ⟨RJ8, "min", "(JJ)J"⟩ = true := by decide +kernel
theorem pfJ8_max_2 : plainFor ⟨RJ8, "max", "(JJ)J"⟩ = true := by decide +kernel
theorem pfJ8_abs_2 : plainFor ⟨RJ8, "abs", "(J)J"⟩ = true := by decide +kernel
